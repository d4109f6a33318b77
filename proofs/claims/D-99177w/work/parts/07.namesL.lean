theorem q564 : (Jvm.Cond.interfaceMethod "VisitingHours$Cond" "VisitingHours$Cond" "holds" "(LVisitingHours$Scene;)Z") ∈ lw_tbl := lw_at lw_m2 181 rfl
set_option maxRecDepth 100000
theorem q565 : (Jvm.Cond.declares ({ cls := "VisitingHours$Cond", name := "holds", desc := "(LVisitingHours$Scene;)Z" } : Jvm.MethodName)) ∈ lw_tbl := lw_at lw_m2 182 rfl
theorem q904 : (Jvm.Cond.sameMethod "[B" "java/lang/Object" "clone" "()Ljava/lang/Object;") ∈ lw_all := lw_g (lw_at lw_m4 41 rfl) rfl
set_option maxRecDepth 100000
theorem q907 : (Jvm.Cond.selects "[B" ({ cls := "[B", name := "clone", desc := "()Ljava/lang/Object;" } : Jvm.MethodName) ({ cls := "java/lang/Object", name := "clone", desc := "()Ljava/lang/Object;" } : Jvm.MethodName)) ∈ lw_all := lw_g (lw_at lw_m4 44 rfl) rfl
theorem q908 : (Jvm.Cond.castable "[B" "java/lang/Cloneable") ∈ lw_tbl := lw_at lw_m4 45 rfl
theorem q2833 : (Jvm.Cond.castable "[B" "java/lang/Object") ∈ lw_tbl := lw_at lw_m12 50 rfl
theorem q2832 : (Jvm.Cond.castable "[I" "java/lang/Object") ∈ lw_tbl := lw_at lw_m12 49 rfl
set_option maxRecDepth 100000
theorem q2838 : (Jvm.Cond.castable "[J" "java/lang/Object") ∈ lw_tbl := lw_at lw_m12 55 rfl
set_option maxRecDepth 100000
theorem q1538 : (Jvm.Cond.sameMethod "[LVisitingHours$Fact;" "java/lang/Object" "clone" "()Ljava/lang/Object;") ∈ lw_all := lw_g (lw_at lw_m6 195 rfl) rfl
set_option maxRecDepth 100000
theorem q1539 : (Jvm.Cond.selects "[LVisitingHours$Fact;" ({ cls := "[LVisitingHours$Fact;", name := "clone", desc := "()Ljava/lang/Object;" } : Jvm.MethodName) ({ cls := "java/lang/Object", name := "clone", desc := "()Ljava/lang/Object;" } : Jvm.MethodName)) ∈ lw_all := lw_g (lw_at lw_m6 196 rfl) rfl
theorem q1540 : (Jvm.Cond.castable "[LVisitingHours$Fact;" "java/lang/Cloneable") ∈ lw_tbl := lw_at lw_m6 197 rfl
theorem q2835 : (Jvm.Cond.castable "[LVisitingHours$Fact;" "java/lang/Object") ∈ lw_tbl := lw_at lw_m12 52 rfl
theorem q1422 : (Jvm.Cond.sameMethod "[LVisitingHours$Kind;" "java/lang/Object" "clone" "()Ljava/lang/Object;") ∈ lw_all := lw_g (lw_at lw_m6 79 rfl) rfl
set_option maxRecDepth 100000
theorem q1423 : (Jvm.Cond.selects "[LVisitingHours$Kind;" ({ cls := "[LVisitingHours$Kind;", name := "clone", desc := "()Ljava/lang/Object;" } : Jvm.MethodName) ({ cls := "java/lang/Object", name := "clone", desc := "()Ljava/lang/Object;" } : Jvm.MethodName)) ∈ lw_all := lw_g (lw_at lw_m6 80 rfl) rfl
theorem q1424 : (Jvm.Cond.castable "[LVisitingHours$Kind;" "java/lang/Cloneable") ∈ lw_tbl := lw_at lw_m6 81 rfl
theorem q2834 : (Jvm.Cond.castable "[LVisitingHours$Kind;" "java/lang/Object") ∈ lw_tbl := lw_at lw_m12 51 rfl
theorem q2828 : (Jvm.Cond.sameMethod "[Ljava/lang/Object;" "java/lang/Object" "getClass" "()Ljava/lang/Class;") ∈ lw_all := lw_g (lw_at lw_m12 45 rfl) rfl
set_option maxRecDepth 100000
theorem q2829 : (Jvm.Cond.selects "[Ljava/lang/Object;" ({ cls := "java/lang/Object", name := "getClass", desc := "()Ljava/lang/Class;" } : Jvm.MethodName) ({ cls := "java/lang/Object", name := "getClass", desc := "()Ljava/lang/Class;" } : Jvm.MethodName)) ∈ lw_all := lw_g (lw_at lw_m12 46 rfl) rfl
theorem q2836 : (Jvm.Cond.castable "[Ljava/lang/Object;" "java/lang/Object") ∈ lw_tbl := lw_at lw_m12 53 rfl
theorem q2837 : (Jvm.Cond.castable "[Z" "java/lang/Object") ∈ lw_tbl := lw_at lw_m12 54 rfl
set_option maxRecDepth 100000
theorem q2831 : (Jvm.Cond.castable "[[I" "java/lang/Object") ∈ lw_tbl := lw_at lw_m12 48 rfl
set_option maxRecDepth 100000
theorem q167 : (Jvm.Cond.initialized "java/lang/Number") ∈ lw_all := lw_g (lw_at lw_m1 24 rfl) rfl
set_option maxRecDepth 100000
theorem q153 : (Jvm.Cond.initialized "java/lang/System") ∈ lw_all := lw_g (lw_at lw_m1 10 rfl) rfl
set_option maxRecDepth 100000
theorem q682 : (Jvm.Cond.static ({ cls := "java/lang/System", name := "arraycopy", desc := "(Ljava/lang/Object;ILjava/lang/Object;II)V" } : Jvm.MethodName)) ∈ lw_all := lw_g (lw_at lw_m3 59 rfl) rfl
theorem q683 : (Jvm.Cond.native ({ cls := "java/lang/System", name := "arraycopy", desc := "(Ljava/lang/Object;ILjava/lang/Object;II)V" } : Jvm.MethodName)) ∈ lw_all := lw_g (lw_at lw_m3 60 rfl) rfl
theorem q1226 : (Jvm.Cond.interfaceMethod "jdk/internal/access/JavaLangAccess" "jdk/internal/access/JavaLangAccess" "getUTF16Char" "([BI)C") ∈ lw_tbl := lw_at lw_m5 123 rfl
set_option maxRecDepth 100000
theorem q1227 : (Jvm.Cond.declares ({ cls := "jdk/internal/access/JavaLangAccess", name := "getUTF16Char", desc := "([BI)C" } : Jvm.MethodName)) ∈ lw_tbl := lw_at lw_m5 124 rfl
theorem q202 : (Jvm.Cond.arrayOver (Jvm.ClassFile.FieldType.array Jvm.ClassFile.FieldType.int)) ∈ lw_tbl := lw_at lw_m1 59 rfl
set_option maxRecDepth 100000
theorem q296 : (Jvm.Cond.arrayClass Jvm.ClassFile.FieldType.int) ∈ lw_all := lw_g (lw_at lw_m1 153 rfl) rfl
theorem q330 : (Jvm.Cond.arrayClass Jvm.ClassFile.FieldType.byte) ∈ lw_all := lw_g (lw_at lw_m1 187 rfl) rfl
theorem q1425 : (Jvm.Cond.arrayOver (Jvm.ClassFile.FieldType.object "VisitingHours$Kind")) ∈ lw_tbl := lw_at lw_m6 82 rfl
theorem q1541 : (Jvm.Cond.arrayOver (Jvm.ClassFile.FieldType.object "VisitingHours$Fact")) ∈ lw_tbl := lw_at lw_m6 198 rfl
theorem q1599 : (Jvm.Cond.arrayOver (Jvm.ClassFile.FieldType.object "java/lang/Object")) ∈ lw_tbl := lw_at lw_m7 16 rfl
theorem q2213 : (Jvm.Cond.arrayClass Jvm.ClassFile.FieldType.boolean) ∈ lw_all := lw_g (lw_at lw_m9 150 rfl) rfl
theorem q2787 : (Jvm.Cond.arrayClass Jvm.ClassFile.FieldType.long) ∈ lw_all := lw_g (lw_at lw_m12 4 rfl) rfl
theorem q2839 : (Jvm.Cond.arrayClass Jvm.ClassFile.FieldType.char) ∈ lw_all := lw_g (lw_at lw_m12 56 rfl) rfl
theorem q2840 : (Jvm.Cond.arrayClass Jvm.ClassFile.FieldType.short) ∈ lw_all := lw_g (lw_at lw_m12 57 rfl) rfl
/-! VisitingHoursLaw -/
set_option maxRecDepth 100000
def RX0 : String := "VisitingHoursLaw"
abbrev cX0_ground : ByteArray := method_3_code
def yX0_ground : MethodName := ⟨RX0, "ground", "(LVisitingHours;[J)I"⟩
def dkwX0_ground_0 : List UInt8 := [43, 3, 42, 182, 0, 7, 133, 80, 167, 0, 9, 77, 4, 172, 77, 5, 172, 3, 172]
abbrev dktX0_ground_0 : List UInt8 := dkwX0_ground_0 ++ []
theorem dksX0_ground_0 : cX0_ground.data.toList.drop 0 = dktX0_ground_0 := by decide +kernel
theorem dX0_ground_0 : decode cX0_ground 0 = .ok (.aload_n 1, 1) := dk_43 (dk_at dksX0_ground_0 0 rfl rfl)
theorem dX0_ground_1 : decode cX0_ground 1 = .ok (.iconst 0, 1) := dk_3 (dk_at dksX0_ground_0 1 rfl rfl)
theorem dX0_ground_2 : decode cX0_ground 2 = .ok (.aload_n 0, 1) := dk_42 (dk_at dksX0_ground_0 2 rfl rfl)
theorem dX0_ground_3 : decode cX0_ground 3 = .ok (.invokevirtual 7, 3) := dk_182 0 7 (dk_at dksX0_ground_0 3 rfl rfl)
theorem dX0_ground_6 : decode cX0_ground 6 = .ok (.i2l, 1) := dk_133 (dk_at dksX0_ground_0 6 rfl rfl)
theorem dX0_ground_7 : decode cX0_ground 7 = .ok (.lastore, 1) := dk_80 (dk_at dksX0_ground_0 7 rfl rfl)
theorem dX0_ground_8 : decode cX0_ground 8 = .ok (.goto 9, 3) := dk_167 0 9 (dk_at dksX0_ground_0 8 rfl rfl)
theorem dX0_ground_11 : decode cX0_ground 11 = .ok (.astore_n 2, 1) := dk_77 (dk_at dksX0_ground_0 11 rfl rfl)
theorem dX0_ground_12 : decode cX0_ground 12 = .ok (.iconst 1, 1) := dk_4 (dk_at dksX0_ground_0 12 rfl rfl)
theorem dX0_ground_13 : decode cX0_ground 13 = .ok (.ireturn, 1) := dk_172 (dk_at dksX0_ground_0 13 rfl rfl)
theorem dX0_ground_14 : decode cX0_ground 14 = .ok (.astore_n 2, 1) := dk_77 (dk_at dksX0_ground_0 14 rfl rfl)
theorem dX0_ground_15 : decode cX0_ground 15 = .ok (.iconst 2, 1) := dk_5 (dk_at dksX0_ground_0 15 rfl rfl)
theorem dX0_ground_16 : decode cX0_ground 16 = .ok (.ireturn, 1) := dk_172 (dk_at dksX0_ground_0 16 rfl rfl)
theorem dX0_ground_17 : decode cX0_ground 17 = .ok (.iconst 0, 1) := dk_3 (dk_at dksX0_ground_0 17 rfl rfl)
theorem dX0_ground_18 : decode cX0_ground 18 = .ok (.ireturn, 1) := dk_172 (dk_at dksX0_ground_0 18 rfl rfl)
abbrev cX0_law : ByteArray := method_4_code
def yX0_law : MethodName := ⟨RX0, "law", "(LVisitingHours;[J)I"⟩
def dkwX0_law_0 : List UInt8 := [43, 3, 42, 182, 0, 17, 133, 80, 167, 0, 6, 77, 4, 172, 3, 172]
abbrev dktX0_law_0 : List UInt8 := dkwX0_law_0 ++ []
theorem dksX0_law_0 : cX0_law.data.toList.drop 0 = dktX0_law_0 := by decide +kernel
theorem dX0_law_0 : decode cX0_law 0 = .ok (.aload_n 1, 1) := dk_43 (dk_at dksX0_law_0 0 rfl rfl)
theorem dX0_law_1 : decode cX0_law 1 = .ok (.iconst 0, 1) := dk_3 (dk_at dksX0_law_0 1 rfl rfl)
theorem dX0_law_2 : decode cX0_law 2 = .ok (.aload_n 0, 1) := dk_42 (dk_at dksX0_law_0 2 rfl rfl)
theorem dX0_law_3 : decode cX0_law 3 = .ok (.invokevirtual 17, 3) := dk_182 0 17 (dk_at dksX0_law_0 3 rfl rfl)
theorem dX0_law_6 : decode cX0_law 6 = .ok (.i2l, 1) := dk_133 (dk_at dksX0_law_0 6 rfl rfl)
theorem dX0_law_7 : decode cX0_law 7 = .ok (.lastore, 1) := dk_80 (dk_at dksX0_law_0 7 rfl rfl)
theorem dX0_law_8 : decode cX0_law 8 = .ok (.goto 6, 3) := dk_167 0 6 (dk_at dksX0_law_0 8 rfl rfl)
theorem dX0_law_11 : decode cX0_law 11 = .ok (.astore_n 2, 1) := dk_77 (dk_at dksX0_law_0 11 rfl rfl)
theorem dX0_law_12 : decode cX0_law 12 = .ok (.iconst 1, 1) := dk_4 (dk_at dksX0_law_0 12 rfl rfl)
theorem dX0_law_13 : decode cX0_law 13 = .ok (.ireturn, 1) := dk_172 (dk_at dksX0_law_0 13 rfl rfl)
theorem dX0_law_14 : decode cX0_law 14 = .ok (.iconst 0, 1) := dk_3 (dk_at dksX0_law_0 14 rfl rfl)
theorem dX0_law_15 : decode cX0_law 15 = .ok (.ireturn, 1) := dk_172 (dk_at dksX0_law_0 15 rfl rfl)
abbrev cX0_host : ByteArray := method_5_code
def yX0_host : MethodName := ⟨RX0, "host", "(LVisitingHours;II[J)I"⟩
def dkwX0_host_0 : List UInt8 := [45, 3, 42, 27, 28, 182, 0, 20, 133, 80, 167, 0, 11, 58, 4, 4, 172, 58, 4, 5, 172, 3, 172]
abbrev dktX0_host_0 : List UInt8 := dkwX0_host_0 ++ []
theorem dksX0_host_0 : cX0_host.data.toList.drop 0 = dktX0_host_0 := by decide +kernel
theorem dX0_host_0 : decode cX0_host 0 = .ok (.aload_n 3, 1) := dk_45 (dk_at dksX0_host_0 0 rfl rfl)
theorem dX0_host_1 : decode cX0_host 1 = .ok (.iconst 0, 1) := dk_3 (dk_at dksX0_host_0 1 rfl rfl)
theorem dX0_host_2 : decode cX0_host 2 = .ok (.aload_n 0, 1) := dk_42 (dk_at dksX0_host_0 2 rfl rfl)
theorem dX0_host_3 : decode cX0_host 3 = .ok (.iload_n 1, 1) := dk_27 (dk_at dksX0_host_0 3 rfl rfl)
theorem dX0_host_4 : decode cX0_host 4 = .ok (.iload_n 2, 1) := dk_28 (dk_at dksX0_host_0 4 rfl rfl)
theorem dX0_host_5 : decode cX0_host 5 = .ok (.invokevirtual 20, 3) := dk_182 0 20 (dk_at dksX0_host_0 5 rfl rfl)
theorem dX0_host_8 : decode cX0_host 8 = .ok (.i2l, 1) := dk_133 (dk_at dksX0_host_0 8 rfl rfl)
theorem dX0_host_9 : decode cX0_host 9 = .ok (.lastore, 1) := dk_80 (dk_at dksX0_host_0 9 rfl rfl)
theorem dX0_host_10 : decode cX0_host 10 = .ok (.goto 11, 3) := dk_167 0 11 (dk_at dksX0_host_0 10 rfl rfl)
theorem dX0_host_13 : decode cX0_host 13 = .ok (.astore 4, 2) := dk_58 4 (dk_at dksX0_host_0 13 rfl rfl)
theorem dX0_host_15 : decode cX0_host 15 = .ok (.iconst 1, 1) := dk_4 (dk_at dksX0_host_0 15 rfl rfl)
theorem dX0_host_16 : decode cX0_host 16 = .ok (.ireturn, 1) := dk_172 (dk_at dksX0_host_0 16 rfl rfl)
theorem dX0_host_17 : decode cX0_host 17 = .ok (.astore 4, 2) := dk_58 4 (dk_at dksX0_host_0 17 rfl rfl)
theorem dX0_host_19 : decode cX0_host 19 = .ok (.iconst 2, 1) := dk_5 (dk_at dksX0_host_0 19 rfl rfl)
theorem dX0_host_20 : decode cX0_host 20 = .ok (.ireturn, 1) := dk_172 (dk_at dksX0_host_0 20 rfl rfl)
theorem dX0_host_21 : decode cX0_host 21 = .ok (.iconst 0, 1) := dk_3 (dk_at dksX0_host_0 21 rfl rfl)
theorem dX0_host_22 : decode cX0_host 22 = .ok (.ireturn, 1) := dk_172 (dk_at dksX0_host_0 22 rfl rfl)
abbrev cX0_guest : ByteArray := method_6_code
def yX0_guest : MethodName := ⟨RX0, "guest", "(LVisitingHours;II[J)I"⟩
def dkwX0_guest_0 : List UInt8 := [45, 3, 42, 27, 28, 182, 0, 28, 133, 80, 167, 0, 11, 58, 4, 4, 172, 58, 4, 5, 172, 3, 172]
abbrev dktX0_guest_0 : List UInt8 := dkwX0_guest_0 ++ []
theorem dksX0_guest_0 : cX0_guest.data.toList.drop 0 = dktX0_guest_0 := by decide +kernel
theorem dX0_guest_0 : decode cX0_guest 0 = .ok (.aload_n 3, 1) := dk_45 (dk_at dksX0_guest_0 0 rfl rfl)
theorem dX0_guest_1 : decode cX0_guest 1 = .ok (.iconst 0, 1) := dk_3 (dk_at dksX0_guest_0 1 rfl rfl)
theorem dX0_guest_2 : decode cX0_guest 2 = .ok (.aload_n 0, 1) := dk_42 (dk_at dksX0_guest_0 2 rfl rfl)
theorem dX0_guest_3 : decode cX0_guest 3 = .ok (.iload_n 1, 1) := dk_27 (dk_at dksX0_guest_0 3 rfl rfl)
theorem dX0_guest_4 : decode cX0_guest 4 = .ok (.iload_n 2, 1) := dk_28 (dk_at dksX0_guest_0 4 rfl rfl)
theorem dX0_guest_5 : decode cX0_guest 5 = .ok (.invokevirtual 28, 3) := dk_182 0 28 (dk_at dksX0_guest_0 5 rfl rfl)
theorem dX0_guest_8 : decode cX0_guest 8 = .ok (.i2l, 1) := dk_133 (dk_at dksX0_guest_0 8 rfl rfl)
theorem dX0_guest_9 : decode cX0_guest 9 = .ok (.lastore, 1) := dk_80 (dk_at dksX0_guest_0 9 rfl rfl)
theorem dX0_guest_10 : decode cX0_guest 10 = .ok (.goto 11, 3) := dk_167 0 11 (dk_at dksX0_guest_0 10 rfl rfl)
theorem dX0_guest_13 : decode cX0_guest 13 = .ok (.astore 4, 2) := dk_58 4 (dk_at dksX0_guest_0 13 rfl rfl)
theorem dX0_guest_15 : decode cX0_guest 15 = .ok (.iconst 1, 1) := dk_4 (dk_at dksX0_guest_0 15 rfl rfl)
theorem dX0_guest_16 : decode cX0_guest 16 = .ok (.ireturn, 1) := dk_172 (dk_at dksX0_guest_0 16 rfl rfl)
theorem dX0_guest_17 : decode cX0_guest 17 = .ok (.astore 4, 2) := dk_58 4 (dk_at dksX0_guest_0 17 rfl rfl)
theorem dX0_guest_19 : decode cX0_guest 19 = .ok (.iconst 2, 1) := dk_5 (dk_at dksX0_guest_0 19 rfl rfl)
theorem dX0_guest_20 : decode cX0_guest 20 = .ok (.ireturn, 1) := dk_172 (dk_at dksX0_guest_0 20 rfl rfl)
theorem dX0_guest_21 : decode cX0_guest 21 = .ok (.iconst 0, 1) := dk_3 (dk_at dksX0_guest_0 21 rfl rfl)
theorem dX0_guest_22 : decode cX0_guest 22 = .ok (.ireturn, 1) := dk_172 (dk_at dksX0_guest_0 22 rfl rfl)
abbrev cX0_rank : ByteArray := method_7_code
def yX0_rank : MethodName := ⟨RX0, "rank", "(LVisitingHours;IIZ[J)I"⟩
def dkwX0_rank_0 : List UInt8 := [25, 4, 3, 42, 27, 28, 29, 182, 0, 31, 133, 80, 167, 0, 7, 58, 5, 4, 172, 3, 172]
abbrev dktX0_rank_0 : List UInt8 := dkwX0_rank_0 ++ []
theorem dksX0_rank_0 : cX0_rank.data.toList.drop 0 = dktX0_rank_0 := by decide +kernel
theorem dX0_rank_0 : decode cX0_rank 0 = .ok (.aload 4, 2) := dk_25 4 (dk_at dksX0_rank_0 0 rfl rfl)
theorem dX0_rank_2 : decode cX0_rank 2 = .ok (.iconst 0, 1) := dk_3 (dk_at dksX0_rank_0 2 rfl rfl)
theorem dX0_rank_3 : decode cX0_rank 3 = .ok (.aload_n 0, 1) := dk_42 (dk_at dksX0_rank_0 3 rfl rfl)
theorem dX0_rank_4 : decode cX0_rank 4 = .ok (.iload_n 1, 1) := dk_27 (dk_at dksX0_rank_0 4 rfl rfl)
theorem dX0_rank_5 : decode cX0_rank 5 = .ok (.iload_n 2, 1) := dk_28 (dk_at dksX0_rank_0 5 rfl rfl)
theorem dX0_rank_6 : decode cX0_rank 6 = .ok (.iload_n 3, 1) := dk_29 (dk_at dksX0_rank_0 6 rfl rfl)
theorem dX0_rank_7 : decode cX0_rank 7 = .ok (.invokevirtual 31, 3) := dk_182 0 31 (dk_at dksX0_rank_0 7 rfl rfl)
theorem dX0_rank_10 : decode cX0_rank 10 = .ok (.i2l, 1) := dk_133 (dk_at dksX0_rank_0 10 rfl rfl)
theorem dX0_rank_11 : decode cX0_rank 11 = .ok (.lastore, 1) := dk_80 (dk_at dksX0_rank_0 11 rfl rfl)
theorem dX0_rank_12 : decode cX0_rank 12 = .ok (.goto 7, 3) := dk_167 0 7 (dk_at dksX0_rank_0 12 rfl rfl)
theorem dX0_rank_15 : decode cX0_rank 15 = .ok (.astore 5, 2) := dk_58 5 (dk_at dksX0_rank_0 15 rfl rfl)
theorem dX0_rank_17 : decode cX0_rank 17 = .ok (.iconst 1, 1) := dk_4 (dk_at dksX0_rank_0 17 rfl rfl)
theorem dX0_rank_18 : decode cX0_rank 18 = .ok (.ireturn, 1) := dk_172 (dk_at dksX0_rank_0 18 rfl rfl)
theorem dX0_rank_19 : decode cX0_rank 19 = .ok (.iconst 0, 1) := dk_3 (dk_at dksX0_rank_0 19 rfl rfl)
theorem dX0_rank_20 : decode cX0_rank 20 = .ok (.ireturn, 1) := dk_172 (dk_at dksX0_rank_0 20 rfl rfl)
abbrev cX0_booked : ByteArray := method_8_code
def yX0_booked : MethodName := ⟨RX0, "booked", "(LVisitingHours;II[J)I"⟩
def dkwX0_booked_0 : List UInt8 := [45, 3, 42, 27, 28, 182, 0, 35, 133, 80, 167, 0, 7, 58, 4, 4, 172, 3, 172]
abbrev dktX0_booked_0 : List UInt8 := dkwX0_booked_0 ++ []
theorem dksX0_booked_0 : cX0_booked.data.toList.drop 0 = dktX0_booked_0 := by decide +kernel
theorem dX0_booked_0 : decode cX0_booked 0 = .ok (.aload_n 3, 1) := dk_45 (dk_at dksX0_booked_0 0 rfl rfl)
theorem dX0_booked_1 : decode cX0_booked 1 = .ok (.iconst 0, 1) := dk_3 (dk_at dksX0_booked_0 1 rfl rfl)
theorem dX0_booked_2 : decode cX0_booked 2 = .ok (.aload_n 0, 1) := dk_42 (dk_at dksX0_booked_0 2 rfl rfl)
theorem dX0_booked_3 : decode cX0_booked 3 = .ok (.iload_n 1, 1) := dk_27 (dk_at dksX0_booked_0 3 rfl rfl)
theorem dX0_booked_4 : decode cX0_booked 4 = .ok (.iload_n 2, 1) := dk_28 (dk_at dksX0_booked_0 4 rfl rfl)
theorem dX0_booked_5 : decode cX0_booked 5 = .ok (.invokevirtual 35, 3) := dk_182 0 35 (dk_at dksX0_booked_0 5 rfl rfl)
theorem dX0_booked_8 : decode cX0_booked 8 = .ok (.i2l, 1) := dk_133 (dk_at dksX0_booked_0 8 rfl rfl)
theorem dX0_booked_9 : decode cX0_booked 9 = .ok (.lastore, 1) := dk_80 (dk_at dksX0_booked_0 9 rfl rfl)
theorem dX0_booked_10 : decode cX0_booked 10 = .ok (.goto 7, 3) := dk_167 0 7 (dk_at dksX0_booked_0 10 rfl rfl)
theorem dX0_booked_13 : decode cX0_booked 13 = .ok (.astore 4, 2) := dk_58 4 (dk_at dksX0_booked_0 13 rfl rfl)
theorem dX0_booked_15 : decode cX0_booked 15 = .ok (.iconst 1, 1) := dk_4 (dk_at dksX0_booked_0 15 rfl rfl)
theorem dX0_booked_16 : decode cX0_booked 16 = .ok (.ireturn, 1) := dk_172 (dk_at dksX0_booked_0 16 rfl rfl)
theorem dX0_booked_17 : decode cX0_booked 17 = .ok (.iconst 0, 1) := dk_3 (dk_at dksX0_booked_0 17 rfl rfl)
theorem dX0_booked_18 : decode cX0_booked 18 = .ok (.ireturn, 1) := dk_172 (dk_at dksX0_booked_0 18 rfl rfl)
abbrev cX0_can : ByteArray := method_9_code
def yX0_can : MethodName := ⟨RX0, "can", "(LVisitingHours;III[J)I"⟩
def dkwX0_can_1 : List UInt8 := [4, 172, 3, 172]
abbrev dktX0_can_1 : List UInt8 := dkwX0_can_1 ++ []
def dkwX0_can_0 : List UInt8 := [25, 4, 3, 42, 27, 28, 29, 182, 0, 38, 153, 0, 7, 10, 167, 0, 4, 9, 80, 167, 0, 7, 58, 5]
abbrev dktX0_can_0 : List UInt8 := dkwX0_can_0 ++ dktX0_can_1
theorem dksX0_can_0 : cX0_can.data.toList.drop 0 = dktX0_can_0 := by decide +kernel
theorem dksX0_can_1 : cX0_can.data.toList.drop 24 = dktX0_can_1 := dk_seg dksX0_can_0 24 rfl rfl
theorem dX0_can_0 : decode cX0_can 0 = .ok (.aload 4, 2) := dk_25 4 (dk_at dksX0_can_0 0 rfl rfl)
theorem dX0_can_2 : decode cX0_can 2 = .ok (.iconst 0, 1) := dk_3 (dk_at dksX0_can_0 2 rfl rfl)
theorem dX0_can_3 : decode cX0_can 3 = .ok (.aload_n 0, 1) := dk_42 (dk_at dksX0_can_0 3 rfl rfl)
theorem dX0_can_4 : decode cX0_can 4 = .ok (.iload_n 1, 1) := dk_27 (dk_at dksX0_can_0 4 rfl rfl)
theorem dX0_can_5 : decode cX0_can 5 = .ok (.iload_n 2, 1) := dk_28 (dk_at dksX0_can_0 5 rfl rfl)
theorem dX0_can_6 : decode cX0_can 6 = .ok (.iload_n 3, 1) := dk_29 (dk_at dksX0_can_0 6 rfl rfl)
theorem dX0_can_7 : decode cX0_can 7 = .ok (.invokevirtual 38, 3) := dk_182 0 38 (dk_at dksX0_can_0 7 rfl rfl)
theorem dX0_can_10 : decode cX0_can 10 = .ok (.ifCond .eq 7, 3) := dk_153 0 7 (dk_at dksX0_can_0 10 rfl rfl)
theorem dX0_can_13 : decode cX0_can 13 = .ok (.lconst 1, 1) := dk_10 (dk_at dksX0_can_0 13 rfl rfl)
theorem dX0_can_14 : decode cX0_can 14 = .ok (.goto 4, 3) := dk_167 0 4 (dk_at dksX0_can_0 14 rfl rfl)
theorem dX0_can_17 : decode cX0_can 17 = .ok (.lconst 0, 1) := dk_9 (dk_at dksX0_can_0 17 rfl rfl)
theorem dX0_can_18 : decode cX0_can 18 = .ok (.lastore, 1) := dk_80 (dk_at dksX0_can_0 18 rfl rfl)
theorem dX0_can_19 : decode cX0_can 19 = .ok (.goto 7, 3) := dk_167 0 7 (dk_at dksX0_can_0 19 rfl rfl)
theorem dX0_can_22 : decode cX0_can 22 = .ok (.astore 5, 2) := dk_58 5 (dk_at dksX0_can_0 22 rfl rfl)
theorem dX0_can_24 : decode cX0_can 24 = .ok (.iconst 1, 1) := dk_4 (dk_at dksX0_can_1 0 rfl rfl)
theorem dX0_can_25 : decode cX0_can 25 = .ok (.ireturn, 1) := dk_172 (dk_at dksX0_can_1 1 rfl rfl)
theorem dX0_can_26 : decode cX0_can 26 = .ok (.iconst 0, 1) := dk_3 (dk_at dksX0_can_1 2 rfl rfl)
theorem dX0_can_27 : decode cX0_can 27 = .ok (.ireturn, 1) := dk_172 (dk_at dksX0_can_1 3 rfl rfl)
abbrev cX0_lets : ByteArray := method_10_code
def yX0_lets : MethodName := ⟨RX0, "lets", "(LVisitingHours;III[J)I"⟩
def dkwX0_lets_1 : List UInt8 := [4, 172, 3, 172]
abbrev dktX0_lets_1 : List UInt8 := dkwX0_lets_1 ++ []
def dkwX0_lets_0 : List UInt8 := [25, 4, 3, 42, 27, 28, 29, 182, 0, 42, 153, 0, 7, 10, 167, 0, 4, 9, 80, 167, 0, 7, 58, 5]
abbrev dktX0_lets_0 : List UInt8 := dkwX0_lets_0 ++ dktX0_lets_1
theorem dksX0_lets_0 : cX0_lets.data.toList.drop 0 = dktX0_lets_0 := by decide +kernel
theorem dksX0_lets_1 : cX0_lets.data.toList.drop 24 = dktX0_lets_1 := dk_seg dksX0_lets_0 24 rfl rfl
theorem dX0_lets_0 : decode cX0_lets 0 = .ok (.aload 4, 2) := dk_25 4 (dk_at dksX0_lets_0 0 rfl rfl)
theorem dX0_lets_2 : decode cX0_lets 2 = .ok (.iconst 0, 1) := dk_3 (dk_at dksX0_lets_0 2 rfl rfl)
theorem dX0_lets_3 : decode cX0_lets 3 = .ok (.aload_n 0, 1) := dk_42 (dk_at dksX0_lets_0 3 rfl rfl)
theorem dX0_lets_4 : decode cX0_lets 4 = .ok (.iload_n 1, 1) := dk_27 (dk_at dksX0_lets_0 4 rfl rfl)
theorem dX0_lets_5 : decode cX0_lets 5 = .ok (.iload_n 2, 1) := dk_28 (dk_at dksX0_lets_0 5 rfl rfl)
theorem dX0_lets_6 : decode cX0_lets 6 = .ok (.iload_n 3, 1) := dk_29 (dk_at dksX0_lets_0 6 rfl rfl)
theorem dX0_lets_7 : decode cX0_lets 7 = .ok (.invokevirtual 42, 3) := dk_182 0 42 (dk_at dksX0_lets_0 7 rfl rfl)
theorem dX0_lets_10 : decode cX0_lets 10 = .ok (.ifCond .eq 7, 3) := dk_153 0 7 (dk_at dksX0_lets_0 10 rfl rfl)
theorem dX0_lets_13 : decode cX0_lets 13 = .ok (.lconst 1, 1) := dk_10 (dk_at dksX0_lets_0 13 rfl rfl)
theorem dX0_lets_14 : decode cX0_lets 14 = .ok (.goto 4, 3) := dk_167 0 4 (dk_at dksX0_lets_0 14 rfl rfl)
theorem dX0_lets_17 : decode cX0_lets 17 = .ok (.lconst 0, 1) := dk_9 (dk_at dksX0_lets_0 17 rfl rfl)
theorem dX0_lets_18 : decode cX0_lets 18 = .ok (.lastore, 1) := dk_80 (dk_at dksX0_lets_0 18 rfl rfl)
theorem dX0_lets_19 : decode cX0_lets 19 = .ok (.goto 7, 3) := dk_167 0 7 (dk_at dksX0_lets_0 19 rfl rfl)
theorem dX0_lets_22 : decode cX0_lets 22 = .ok (.astore 5, 2) := dk_58 5 (dk_at dksX0_lets_0 22 rfl rfl)
theorem dX0_lets_24 : decode cX0_lets 24 = .ok (.iconst 1, 1) := dk_4 (dk_at dksX0_lets_1 0 rfl rfl)
theorem dX0_lets_25 : decode cX0_lets 25 = .ok (.ireturn, 1) := dk_172 (dk_at dksX0_lets_1 1 rfl rfl)
theorem dX0_lets_26 : decode cX0_lets 26 = .ok (.iconst 0, 1) := dk_3 (dk_at dksX0_lets_1 2 rfl rfl)
theorem dX0_lets_27 : decode cX0_lets 27 = .ok (.ireturn, 1) := dk_172 (dk_at dksX0_lets_1 3 rfl rfl)
abbrev cX0_joy : ByteArray := method_11_code
def yX0_joy : MethodName := ⟨RX0, "joy", "(LVisitingHours;III[J)I"⟩
def dkwX0_joy_0 : List UInt8 := [25, 4, 3, 42, 27, 28, 29, 182, 0, 45, 133, 80, 167, 0, 7, 58, 5, 4, 172, 3, 172]
abbrev dktX0_joy_0 : List UInt8 := dkwX0_joy_0 ++ []
theorem dksX0_joy_0 : cX0_joy.data.toList.drop 0 = dktX0_joy_0 := by decide +kernel
theorem dX0_joy_0 : decode cX0_joy 0 = .ok (.aload 4, 2) := dk_25 4 (dk_at dksX0_joy_0 0 rfl rfl)
theorem dX0_joy_2 : decode cX0_joy 2 = .ok (.iconst 0, 1) := dk_3 (dk_at dksX0_joy_0 2 rfl rfl)
theorem dX0_joy_3 : decode cX0_joy 3 = .ok (.aload_n 0, 1) := dk_42 (dk_at dksX0_joy_0 3 rfl rfl)
theorem dX0_joy_4 : decode cX0_joy 4 = .ok (.iload_n 1, 1) := dk_27 (dk_at dksX0_joy_0 4 rfl rfl)
theorem dX0_joy_5 : decode cX0_joy 5 = .ok (.iload_n 2, 1) := dk_28 (dk_at dksX0_joy_0 5 rfl rfl)
theorem dX0_joy_6 : decode cX0_joy 6 = .ok (.iload_n 3, 1) := dk_29 (dk_at dksX0_joy_0 6 rfl rfl)
theorem dX0_joy_7 : decode cX0_joy 7 = .ok (.invokevirtual 45, 3) := dk_182 0 45 (dk_at dksX0_joy_0 7 rfl rfl)
theorem dX0_joy_10 : decode cX0_joy 10 = .ok (.i2l, 1) := dk_133 (dk_at dksX0_joy_0 10 rfl rfl)
theorem dX0_joy_11 : decode cX0_joy 11 = .ok (.lastore, 1) := dk_80 (dk_at dksX0_joy_0 11 rfl rfl)
theorem dX0_joy_12 : decode cX0_joy 12 = .ok (.goto 7, 3) := dk_167 0 7 (dk_at dksX0_joy_0 12 rfl rfl)
theorem dX0_joy_15 : decode cX0_joy 15 = .ok (.astore 5, 2) := dk_58 5 (dk_at dksX0_joy_0 15 rfl rfl)
theorem dX0_joy_17 : decode cX0_joy 17 = .ok (.iconst 1, 1) := dk_4 (dk_at dksX0_joy_0 17 rfl rfl)
theorem dX0_joy_18 : decode cX0_joy 18 = .ok (.ireturn, 1) := dk_172 (dk_at dksX0_joy_0 18 rfl rfl)
theorem dX0_joy_19 : decode cX0_joy 19 = .ok (.iconst 0, 1) := dk_3 (dk_at dksX0_joy_0 19 rfl rfl)
theorem dX0_joy_20 : decode cX0_joy 20 = .ok (.ireturn, 1) := dk_172 (dk_at dksX0_joy_0 20 rfl rfl)
abbrev cX0_book : ByteArray := method_12_code
def yX0_book : MethodName := ⟨RX0, "book", "(LVisitingHours;III[J)I"⟩
def dkwX0_book_1 : List UInt8 := [172]
abbrev dktX0_book_1 : List UInt8 := dkwX0_book_1 ++ []
def dkwX0_book_0 : List UInt8 := [25, 4, 3, 42, 27, 28, 29, 182, 0, 49, 133, 80, 167, 0, 11, 58, 5, 4, 172, 58, 5, 5, 172, 3]
abbrev dktX0_book_0 : List UInt8 := dkwX0_book_0 ++ dktX0_book_1
theorem dksX0_book_0 : cX0_book.data.toList.drop 0 = dktX0_book_0 := by decide +kernel
theorem dksX0_book_1 : cX0_book.data.toList.drop 24 = dktX0_book_1 := dk_seg dksX0_book_0 24 rfl rfl
theorem dX0_book_0 : decode cX0_book 0 = .ok (.aload 4, 2) := dk_25 4 (dk_at dksX0_book_0 0 rfl rfl)
theorem dX0_book_2 : decode cX0_book 2 = .ok (.iconst 0, 1) := dk_3 (dk_at dksX0_book_0 2 rfl rfl)
theorem dX0_book_3 : decode cX0_book 3 = .ok (.aload_n 0, 1) := dk_42 (dk_at dksX0_book_0 3 rfl rfl)
theorem dX0_book_4 : decode cX0_book 4 = .ok (.iload_n 1, 1) := dk_27 (dk_at dksX0_book_0 4 rfl rfl)
theorem dX0_book_5 : decode cX0_book 5 = .ok (.iload_n 2, 1) := dk_28 (dk_at dksX0_book_0 5 rfl rfl)
theorem dX0_book_6 : decode cX0_book 6 = .ok (.iload_n 3, 1) := dk_29 (dk_at dksX0_book_0 6 rfl rfl)
theorem dX0_book_7 : decode cX0_book 7 = .ok (.invokevirtual 49, 3) := dk_182 0 49 (dk_at dksX0_book_0 7 rfl rfl)
theorem dX0_book_10 : decode cX0_book 10 = .ok (.i2l, 1) := dk_133 (dk_at dksX0_book_0 10 rfl rfl)
theorem dX0_book_11 : decode cX0_book 11 = .ok (.lastore, 1) := dk_80 (dk_at dksX0_book_0 11 rfl rfl)
theorem dX0_book_12 : decode cX0_book 12 = .ok (.goto 11, 3) := dk_167 0 11 (dk_at dksX0_book_0 12 rfl rfl)
theorem dX0_book_15 : decode cX0_book 15 = .ok (.astore 5, 2) := dk_58 5 (dk_at dksX0_book_0 15 rfl rfl)
theorem dX0_book_17 : decode cX0_book 17 = .ok (.iconst 1, 1) := dk_4 (dk_at dksX0_book_0 17 rfl rfl)
theorem dX0_book_18 : decode cX0_book 18 = .ok (.ireturn, 1) := dk_172 (dk_at dksX0_book_0 18 rfl rfl)
theorem dX0_book_19 : decode cX0_book 19 = .ok (.astore 5, 2) := dk_58 5 (dk_at dksX0_book_0 19 rfl rfl)
theorem dX0_book_21 : decode cX0_book 21 = .ok (.iconst 2, 1) := dk_5 (dk_at dksX0_book_0 21 rfl rfl)
theorem dX0_book_22 : decode cX0_book 22 = .ok (.ireturn, 1) := dk_172 (dk_at dksX0_book_0 22 rfl rfl)
theorem dX0_book_23 : decode cX0_book 23 = .ok (.iconst 0, 1) := dk_3 (dk_at dksX0_book_0 23 rfl rfl)
theorem dX0_book_24 : decode cX0_book 24 = .ok (.ireturn, 1) := dk_172 (dk_at dksX0_book_1 0 rfl rfl)
abbrev cX0_strike : ByteArray := method_13_code
def yX0_strike : MethodName := ⟨RX0, "strike", "(LVisitingHours;II[J)I"⟩
def dkwX0_strike_0 : List UInt8 := [45, 3, 42, 27, 28, 182, 0, 54, 133, 80, 167, 0, 11, 58, 4, 4, 172, 58, 4, 5, 172, 3, 172]
abbrev dktX0_strike_0 : List UInt8 := dkwX0_strike_0 ++ []
theorem dksX0_strike_0 : cX0_strike.data.toList.drop 0 = dktX0_strike_0 := by decide +kernel
theorem dX0_strike_0 : decode cX0_strike 0 = .ok (.aload_n 3, 1) := dk_45 (dk_at dksX0_strike_0 0 rfl rfl)
theorem dX0_strike_1 : decode cX0_strike 1 = .ok (.iconst 0, 1) := dk_3 (dk_at dksX0_strike_0 1 rfl rfl)
theorem dX0_strike_2 : decode cX0_strike 2 = .ok (.aload_n 0, 1) := dk_42 (dk_at dksX0_strike_0 2 rfl rfl)
theorem dX0_strike_3 : decode cX0_strike 3 = .ok (.iload_n 1, 1) := dk_27 (dk_at dksX0_strike_0 3 rfl rfl)
theorem dX0_strike_4 : decode cX0_strike 4 = .ok (.iload_n 2, 1) := dk_28 (dk_at dksX0_strike_0 4 rfl rfl)
theorem dX0_strike_5 : decode cX0_strike 5 = .ok (.invokevirtual 54, 3) := dk_182 0 54 (dk_at dksX0_strike_0 5 rfl rfl)
theorem dX0_strike_8 : decode cX0_strike 8 = .ok (.i2l, 1) := dk_133 (dk_at dksX0_strike_0 8 rfl rfl)
theorem dX0_strike_9 : decode cX0_strike 9 = .ok (.lastore, 1) := dk_80 (dk_at dksX0_strike_0 9 rfl rfl)
theorem dX0_strike_10 : decode cX0_strike 10 = .ok (.goto 11, 3) := dk_167 0 11 (dk_at dksX0_strike_0 10 rfl rfl)
theorem dX0_strike_13 : decode cX0_strike 13 = .ok (.astore 4, 2) := dk_58 4 (dk_at dksX0_strike_0 13 rfl rfl)
theorem dX0_strike_15 : decode cX0_strike 15 = .ok (.iconst 1, 1) := dk_4 (dk_at dksX0_strike_0 15 rfl rfl)
theorem dX0_strike_16 : decode cX0_strike 16 = .ok (.ireturn, 1) := dk_172 (dk_at dksX0_strike_0 16 rfl rfl)
theorem dX0_strike_17 : decode cX0_strike 17 = .ok (.astore 4, 2) := dk_58 4 (dk_at dksX0_strike_0 17 rfl rfl)
theorem dX0_strike_19 : decode cX0_strike 19 = .ok (.iconst 2, 1) := dk_5 (dk_at dksX0_strike_0 19 rfl rfl)
theorem dX0_strike_20 : decode cX0_strike 20 = .ok (.ireturn, 1) := dk_172 (dk_at dksX0_strike_0 20 rfl rfl)
theorem dX0_strike_21 : decode cX0_strike 21 = .ok (.iconst 0, 1) := dk_3 (dk_at dksX0_strike_0 21 rfl rfl)
theorem dX0_strike_22 : decode cX0_strike 22 = .ok (.ireturn, 1) := dk_172 (dk_at dksX0_strike_0 22 rfl rfl)
abbrev cX0_change : ByteArray := method_14_code
def yX0_change : MethodName := ⟨RX0, "change", "(LVisitingHours;III[J)I"⟩
def dkwX0_change_1 : List UInt8 := [172]
abbrev dktX0_change_1 : List UInt8 := dkwX0_change_1 ++ []
def dkwX0_change_0 : List UInt8 := [25, 4, 3, 42, 27, 28, 29, 182, 0, 57, 133, 80, 167, 0, 11, 58, 5, 4, 172, 58, 5, 5, 172, 3]
abbrev dktX0_change_0 : List UInt8 := dkwX0_change_0 ++ dktX0_change_1
theorem dksX0_change_0 : cX0_change.data.toList.drop 0 = dktX0_change_0 := by decide +kernel
theorem dksX0_change_1 : cX0_change.data.toList.drop 24 = dktX0_change_1 := dk_seg dksX0_change_0 24 rfl rfl
theorem dX0_change_0 : decode cX0_change 0 = .ok (.aload 4, 2) := dk_25 4 (dk_at dksX0_change_0 0 rfl rfl)
theorem dX0_change_2 : decode cX0_change 2 = .ok (.iconst 0, 1) := dk_3 (dk_at dksX0_change_0 2 rfl rfl)
theorem dX0_change_3 : decode cX0_change 3 = .ok (.aload_n 0, 1) := dk_42 (dk_at dksX0_change_0 3 rfl rfl)
theorem dX0_change_4 : decode cX0_change 4 = .ok (.iload_n 1, 1) := dk_27 (dk_at dksX0_change_0 4 rfl rfl)
theorem dX0_change_5 : decode cX0_change 5 = .ok (.iload_n 2, 1) := dk_28 (dk_at dksX0_change_0 5 rfl rfl)
theorem dX0_change_6 : decode cX0_change 6 = .ok (.iload_n 3, 1) := dk_29 (dk_at dksX0_change_0 6 rfl rfl)
theorem dX0_change_7 : decode cX0_change 7 = .ok (.invokevirtual 57, 3) := dk_182 0 57 (dk_at dksX0_change_0 7 rfl rfl)
theorem dX0_change_10 : decode cX0_change 10 = .ok (.i2l, 1) := dk_133 (dk_at dksX0_change_0 10 rfl rfl)
theorem dX0_change_11 : decode cX0_change 11 = .ok (.lastore, 1) := dk_80 (dk_at dksX0_change_0 11 rfl rfl)
theorem dX0_change_12 : decode cX0_change 12 = .ok (.goto 11, 3) := dk_167 0 11 (dk_at dksX0_change_0 12 rfl rfl)
theorem dX0_change_15 : decode cX0_change 15 = .ok (.astore 5, 2) := dk_58 5 (dk_at dksX0_change_0 15 rfl rfl)
theorem dX0_change_17 : decode cX0_change 17 = .ok (.iconst 1, 1) := dk_4 (dk_at dksX0_change_0 17 rfl rfl)
theorem dX0_change_18 : decode cX0_change 18 = .ok (.ireturn, 1) := dk_172 (dk_at dksX0_change_0 18 rfl rfl)
theorem dX0_change_19 : decode cX0_change 19 = .ok (.astore 5, 2) := dk_58 5 (dk_at dksX0_change_0 19 rfl rfl)
theorem dX0_change_21 : decode cX0_change 21 = .ok (.iconst 2, 1) := dk_5 (dk_at dksX0_change_0 21 rfl rfl)
theorem dX0_change_22 : decode cX0_change 22 = .ok (.ireturn, 1) := dk_172 (dk_at dksX0_change_0 22 rfl rfl)
theorem dX0_change_23 : decode cX0_change 23 = .ok (.iconst 0, 1) := dk_3 (dk_at dksX0_change_0 23 rfl rfl)
theorem dX0_change_24 : decode cX0_change 24 = .ok (.ireturn, 1) := dk_172 (dk_at dksX0_change_1 0 rfl rfl)
abbrev cX0_mark : ByteArray := method_15_code
def yX0_mark : MethodName := ⟨RX0, "mark", "(LVisitingHours;II[J)I"⟩
def dkwX0_mark_0 : List UInt8 := [45, 3, 42, 27, 28, 182, 0, 60, 133, 80, 167, 0, 11, 58, 4, 4, 172, 58, 4, 5, 172, 3, 172]
abbrev dktX0_mark_0 : List UInt8 := dkwX0_mark_0 ++ []
theorem dksX0_mark_0 : cX0_mark.data.toList.drop 0 = dktX0_mark_0 := by decide +kernel
theorem dX0_mark_0 : decode cX0_mark 0 = .ok (.aload_n 3, 1) := dk_45 (dk_at dksX0_mark_0 0 rfl rfl)
theorem dX0_mark_1 : decode cX0_mark 1 = .ok (.iconst 0, 1) := dk_3 (dk_at dksX0_mark_0 1 rfl rfl)
theorem dX0_mark_2 : decode cX0_mark 2 = .ok (.aload_n 0, 1) := dk_42 (dk_at dksX0_mark_0 2 rfl rfl)
theorem dX0_mark_3 : decode cX0_mark 3 = .ok (.iload_n 1, 1) := dk_27 (dk_at dksX0_mark_0 3 rfl rfl)
theorem dX0_mark_4 : decode cX0_mark 4 = .ok (.iload_n 2, 1) := dk_28 (dk_at dksX0_mark_0 4 rfl rfl)
theorem dX0_mark_5 : decode cX0_mark 5 = .ok (.invokevirtual 60, 3) := dk_182 0 60 (dk_at dksX0_mark_0 5 rfl rfl)
theorem dX0_mark_8 : decode cX0_mark 8 = .ok (.i2l, 1) := dk_133 (dk_at dksX0_mark_0 8 rfl rfl)
theorem dX0_mark_9 : decode cX0_mark 9 = .ok (.lastore, 1) := dk_80 (dk_at dksX0_mark_0 9 rfl rfl)
theorem dX0_mark_10 : decode cX0_mark 10 = .ok (.goto 11, 3) := dk_167 0 11 (dk_at dksX0_mark_0 10 rfl rfl)
theorem dX0_mark_13 : decode cX0_mark 13 = .ok (.astore 4, 2) := dk_58 4 (dk_at dksX0_mark_0 13 rfl rfl)
theorem dX0_mark_15 : decode cX0_mark 15 = .ok (.iconst 1, 1) := dk_4 (dk_at dksX0_mark_0 15 rfl rfl)
theorem dX0_mark_16 : decode cX0_mark 16 = .ok (.ireturn, 1) := dk_172 (dk_at dksX0_mark_0 16 rfl rfl)
theorem dX0_mark_17 : decode cX0_mark 17 = .ok (.astore 4, 2) := dk_58 4 (dk_at dksX0_mark_0 17 rfl rfl)
theorem dX0_mark_19 : decode cX0_mark 19 = .ok (.iconst 2, 1) := dk_5 (dk_at dksX0_mark_0 19 rfl rfl)
theorem dX0_mark_20 : decode cX0_mark 20 = .ok (.ireturn, 1) := dk_172 (dk_at dksX0_mark_0 20 rfl rfl)
theorem dX0_mark_21 : decode cX0_mark 21 = .ok (.iconst 0, 1) := dk_3 (dk_at dksX0_mark_0 21 rfl rfl)
theorem dX0_mark_22 : decode cX0_mark 22 = .ok (.ireturn, 1) := dk_172 (dk_at dksX0_mark_0 22 rfl rfl)
abbrev cX0_gate : ByteArray := method_16_code
def yX0_gate : MethodName := ⟨RX0, "gate", "(LVisitingHours;II[J)I"⟩
def dkwX0_gate_0 : List UInt8 := [45, 3, 42, 27, 28, 182, 0, 63, 133, 80, 167, 0, 7, 58, 4, 4, 172, 3, 172]
abbrev dktX0_gate_0 : List UInt8 := dkwX0_gate_0 ++ []
theorem dksX0_gate_0 : cX0_gate.data.toList.drop 0 = dktX0_gate_0 := by decide +kernel
theorem dX0_gate_0 : decode cX0_gate 0 = .ok (.aload_n 3, 1) := dk_45 (dk_at dksX0_gate_0 0 rfl rfl)
theorem dX0_gate_1 : decode cX0_gate 1 = .ok (.iconst 0, 1) := dk_3 (dk_at dksX0_gate_0 1 rfl rfl)
theorem dX0_gate_2 : decode cX0_gate 2 = .ok (.aload_n 0, 1) := dk_42 (dk_at dksX0_gate_0 2 rfl rfl)
theorem dX0_gate_3 : decode cX0_gate 3 = .ok (.iload_n 1, 1) := dk_27 (dk_at dksX0_gate_0 3 rfl rfl)
theorem dX0_gate_4 : decode cX0_gate 4 = .ok (.iload_n 2, 1) := dk_28 (dk_at dksX0_gate_0 4 rfl rfl)
theorem dX0_gate_5 : decode cX0_gate 5 = .ok (.invokevirtual 63, 3) := dk_182 0 63 (dk_at dksX0_gate_0 5 rfl rfl)
theorem dX0_gate_8 : decode cX0_gate 8 = .ok (.i2l, 1) := dk_133 (dk_at dksX0_gate_0 8 rfl rfl)
theorem dX0_gate_9 : decode cX0_gate 9 = .ok (.lastore, 1) := dk_80 (dk_at dksX0_gate_0 9 rfl rfl)
theorem dX0_gate_10 : decode cX0_gate 10 = .ok (.goto 7, 3) := dk_167 0 7 (dk_at dksX0_gate_0 10 rfl rfl)
theorem dX0_gate_13 : decode cX0_gate 13 = .ok (.astore 4, 2) := dk_58 4 (dk_at dksX0_gate_0 13 rfl rfl)
theorem dX0_gate_15 : decode cX0_gate 15 = .ok (.iconst 1, 1) := dk_4 (dk_at dksX0_gate_0 15 rfl rfl)
theorem dX0_gate_16 : decode cX0_gate 16 = .ok (.ireturn, 1) := dk_172 (dk_at dksX0_gate_0 16 rfl rfl)
theorem dX0_gate_17 : decode cX0_gate 17 = .ok (.iconst 0, 1) := dk_3 (dk_at dksX0_gate_0 17 rfl rfl)
theorem dX0_gate_18 : decode cX0_gate 18 = .ok (.ireturn, 1) := dk_172 (dk_at dksX0_gate_0 18 rfl rfl)
abbrev cX0_value : ByteArray := method_17_code
def yX0_value : MethodName := ⟨RX0, "value", "(LVisitingHours;IIZI[J)I"⟩
def dkwX0_value_1 : List UInt8 := [172, 3, 172]
abbrev dktX0_value_1 : List UInt8 := dkwX0_value_1 ++ []
def dkwX0_value_0 : List UInt8 := [25, 5, 3, 42, 27, 28, 29, 21, 4, 182, 0, 66, 133, 80, 167, 0, 11, 58, 6, 4, 172, 58, 6, 5]
abbrev dktX0_value_0 : List UInt8 := dkwX0_value_0 ++ dktX0_value_1
theorem dksX0_value_0 : cX0_value.data.toList.drop 0 = dktX0_value_0 := by decide +kernel
theorem dksX0_value_1 : cX0_value.data.toList.drop 24 = dktX0_value_1 := dk_seg dksX0_value_0 24 rfl rfl
theorem dX0_value_0 : decode cX0_value 0 = .ok (.aload 5, 2) := dk_25 5 (dk_at dksX0_value_0 0 rfl rfl)
theorem dX0_value_2 : decode cX0_value 2 = .ok (.iconst 0, 1) := dk_3 (dk_at dksX0_value_0 2 rfl rfl)
theorem dX0_value_3 : decode cX0_value 3 = .ok (.aload_n 0, 1) := dk_42 (dk_at dksX0_value_0 3 rfl rfl)
theorem dX0_value_4 : decode cX0_value 4 = .ok (.iload_n 1, 1) := dk_27 (dk_at dksX0_value_0 4 rfl rfl)
theorem dX0_value_5 : decode cX0_value 5 = .ok (.iload_n 2, 1) := dk_28 (dk_at dksX0_value_0 5 rfl rfl)
theorem dX0_value_6 : decode cX0_value 6 = .ok (.iload_n 3, 1) := dk_29 (dk_at dksX0_value_0 6 rfl rfl)
theorem dX0_value_7 : decode cX0_value 7 = .ok (.iload 4, 2) := dk_21 4 (dk_at dksX0_value_0 7 rfl rfl)
theorem dX0_value_9 : decode cX0_value 9 = .ok (.invokevirtual 66, 3) := dk_182 0 66 (dk_at dksX0_value_0 9 rfl rfl)
theorem dX0_value_12 : decode cX0_value 12 = .ok (.i2l, 1) := dk_133 (dk_at dksX0_value_0 12 rfl rfl)
theorem dX0_value_13 : decode cX0_value 13 = .ok (.lastore, 1) := dk_80 (dk_at dksX0_value_0 13 rfl rfl)
theorem dX0_value_14 : decode cX0_value 14 = .ok (.goto 11, 3) := dk_167 0 11 (dk_at dksX0_value_0 14 rfl rfl)
theorem dX0_value_17 : decode cX0_value 17 = .ok (.astore 6, 2) := dk_58 6 (dk_at dksX0_value_0 17 rfl rfl)
theorem dX0_value_19 : decode cX0_value 19 = .ok (.iconst 1, 1) := dk_4 (dk_at dksX0_value_0 19 rfl rfl)
theorem dX0_value_20 : decode cX0_value 20 = .ok (.ireturn, 1) := dk_172 (dk_at dksX0_value_0 20 rfl rfl)
theorem dX0_value_21 : decode cX0_value 21 = .ok (.astore 6, 2) := dk_58 6 (dk_at dksX0_value_0 21 rfl rfl)
theorem dX0_value_23 : decode cX0_value 23 = .ok (.iconst 2, 1) := dk_5 (dk_at dksX0_value_0 23 rfl rfl)
theorem dX0_value_24 : decode cX0_value 24 = .ok (.ireturn, 1) := dk_172 (dk_at dksX0_value_1 0 rfl rfl)
theorem dX0_value_25 : decode cX0_value 25 = .ok (.iconst 0, 1) := dk_3 (dk_at dksX0_value_1 1 rfl rfl)
theorem dX0_value_26 : decode cX0_value 26 = .ok (.ireturn, 1) := dk_172 (dk_at dksX0_value_1 2 rfl rfl)
abbrev cX0_weeks : ByteArray := method_18_code
def yX0_weeks : MethodName := ⟨RX0, "weeks", "(LVisitingHours;I[J)I"⟩
def dkwX0_weeks_0 : List UInt8 := [44, 3, 42, 27, 182, 0, 70, 133, 80, 167, 0, 6, 78, 4, 172, 3, 172]
abbrev dktX0_weeks_0 : List UInt8 := dkwX0_weeks_0 ++ []
theorem dksX0_weeks_0 : cX0_weeks.data.toList.drop 0 = dktX0_weeks_0 := by decide +kernel
theorem dX0_weeks_0 : decode cX0_weeks 0 = .ok (.aload_n 2, 1) := dk_44 (dk_at dksX0_weeks_0 0 rfl rfl)
theorem dX0_weeks_1 : decode cX0_weeks 1 = .ok (.iconst 0, 1) := dk_3 (dk_at dksX0_weeks_0 1 rfl rfl)
theorem dX0_weeks_2 : decode cX0_weeks 2 = .ok (.aload_n 0, 1) := dk_42 (dk_at dksX0_weeks_0 2 rfl rfl)
theorem dX0_weeks_3 : decode cX0_weeks 3 = .ok (.iload_n 1, 1) := dk_27 (dk_at dksX0_weeks_0 3 rfl rfl)
theorem dX0_weeks_4 : decode cX0_weeks 4 = .ok (.invokevirtual 70, 3) := dk_182 0 70 (dk_at dksX0_weeks_0 4 rfl rfl)
theorem dX0_weeks_7 : decode cX0_weeks 7 = .ok (.i2l, 1) := dk_133 (dk_at dksX0_weeks_0 7 rfl rfl)
theorem dX0_weeks_8 : decode cX0_weeks 8 = .ok (.lastore, 1) := dk_80 (dk_at dksX0_weeks_0 8 rfl rfl)
theorem dX0_weeks_9 : decode cX0_weeks 9 = .ok (.goto 6, 3) := dk_167 0 6 (dk_at dksX0_weeks_0 9 rfl rfl)
theorem dX0_weeks_12 : decode cX0_weeks 12 = .ok (.astore_n 3, 1) := dk_78 (dk_at dksX0_weeks_0 12 rfl rfl)
theorem dX0_weeks_13 : decode cX0_weeks 13 = .ok (.iconst 1, 1) := dk_4 (dk_at dksX0_weeks_0 13 rfl rfl)
theorem dX0_weeks_14 : decode cX0_weeks 14 = .ok (.ireturn, 1) := dk_172 (dk_at dksX0_weeks_0 14 rfl rfl)
theorem dX0_weeks_15 : decode cX0_weeks 15 = .ok (.iconst 0, 1) := dk_3 (dk_at dksX0_weeks_0 15 rfl rfl)
theorem dX0_weeks_16 : decode cX0_weeks 16 = .ok (.ireturn, 1) := dk_172 (dk_at dksX0_weeks_0 16 rfl rfl)
abbrev cX0_hostBest : ByteArray := method_19_code
def yX0_hostBest : MethodName := ⟨RX0, "hostBest", "(LVisitingHours;I[J)I"⟩
def dkwX0_hostBest_0 : List UInt8 := [44, 3, 42, 27, 182, 0, 74, 133, 80, 167, 0, 6, 78, 4, 172, 3, 172]
abbrev dktX0_hostBest_0 : List UInt8 := dkwX0_hostBest_0 ++ []
theorem dksX0_hostBest_0 : cX0_hostBest.data.toList.drop 0 = dktX0_hostBest_0 := by decide +kernel
theorem dX0_hostBest_0 : decode cX0_hostBest 0 = .ok (.aload_n 2, 1) := dk_44 (dk_at dksX0_hostBest_0 0 rfl rfl)
theorem dX0_hostBest_1 : decode cX0_hostBest 1 = .ok (.iconst 0, 1) := dk_3 (dk_at dksX0_hostBest_0 1 rfl rfl)
theorem dX0_hostBest_2 : decode cX0_hostBest 2 = .ok (.aload_n 0, 1) := dk_42 (dk_at dksX0_hostBest_0 2 rfl rfl)
theorem dX0_hostBest_3 : decode cX0_hostBest 3 = .ok (.iload_n 1, 1) := dk_27 (dk_at dksX0_hostBest_0 3 rfl rfl)
theorem dX0_hostBest_4 : decode cX0_hostBest 4 = .ok (.invokevirtual 74, 3) := dk_182 0 74 (dk_at dksX0_hostBest_0 4 rfl rfl)
theorem dX0_hostBest_7 : decode cX0_hostBest 7 = .ok (.i2l, 1) := dk_133 (dk_at dksX0_hostBest_0 7 rfl rfl)
theorem dX0_hostBest_8 : decode cX0_hostBest 8 = .ok (.lastore, 1) := dk_80 (dk_at dksX0_hostBest_0 8 rfl rfl)
theorem dX0_hostBest_9 : decode cX0_hostBest 9 = .ok (.goto 6, 3) := dk_167 0 6 (dk_at dksX0_hostBest_0 9 rfl rfl)
theorem dX0_hostBest_12 : decode cX0_hostBest 12 = .ok (.astore_n 3, 1) := dk_78 (dk_at dksX0_hostBest_0 12 rfl rfl)
theorem dX0_hostBest_13 : decode cX0_hostBest 13 = .ok (.iconst 1, 1) := dk_4 (dk_at dksX0_hostBest_0 13 rfl rfl)
theorem dX0_hostBest_14 : decode cX0_hostBest 14 = .ok (.ireturn, 1) := dk_172 (dk_at dksX0_hostBest_0 14 rfl rfl)
theorem dX0_hostBest_15 : decode cX0_hostBest 15 = .ok (.iconst 0, 1) := dk_3 (dk_at dksX0_hostBest_0 15 rfl rfl)
theorem dX0_hostBest_16 : decode cX0_hostBest 16 = .ok (.ireturn, 1) := dk_172 (dk_at dksX0_hostBest_0 16 rfl rfl)
abbrev cX0_guestBest : ByteArray := method_20_code
def yX0_guestBest : MethodName := ⟨RX0, "guestBest", "(LVisitingHours;I[J)I"⟩
def dkwX0_guestBest_0 : List UInt8 := [44, 3, 42, 27, 182, 0, 77, 133, 80, 167, 0, 6, 78, 4, 172, 3, 172]
abbrev dktX0_guestBest_0 : List UInt8 := dkwX0_guestBest_0 ++ []
theorem dksX0_guestBest_0 : cX0_guestBest.data.toList.drop 0 = dktX0_guestBest_0 := by decide +kernel
theorem dX0_guestBest_0 : decode cX0_guestBest 0 = .ok (.aload_n 2, 1) := dk_44 (dk_at dksX0_guestBest_0 0 rfl rfl)
theorem dX0_guestBest_1 : decode cX0_guestBest 1 = .ok (.iconst 0, 1) := dk_3 (dk_at dksX0_guestBest_0 1 rfl rfl)
theorem dX0_guestBest_2 : decode cX0_guestBest 2 = .ok (.aload_n 0, 1) := dk_42 (dk_at dksX0_guestBest_0 2 rfl rfl)
theorem dX0_guestBest_3 : decode cX0_guestBest 3 = .ok (.iload_n 1, 1) := dk_27 (dk_at dksX0_guestBest_0 3 rfl rfl)
theorem dX0_guestBest_4 : decode cX0_guestBest 4 = .ok (.invokevirtual 77, 3) := dk_182 0 77 (dk_at dksX0_guestBest_0 4 rfl rfl)
theorem dX0_guestBest_7 : decode cX0_guestBest 7 = .ok (.i2l, 1) := dk_133 (dk_at dksX0_guestBest_0 7 rfl rfl)
theorem dX0_guestBest_8 : decode cX0_guestBest 8 = .ok (.lastore, 1) := dk_80 (dk_at dksX0_guestBest_0 8 rfl rfl)
theorem dX0_guestBest_9 : decode cX0_guestBest 9 = .ok (.goto 6, 3) := dk_167 0 6 (dk_at dksX0_guestBest_0 9 rfl rfl)
theorem dX0_guestBest_12 : decode cX0_guestBest 12 = .ok (.astore_n 3, 1) := dk_78 (dk_at dksX0_guestBest_0 12 rfl rfl)
theorem dX0_guestBest_13 : decode cX0_guestBest 13 = .ok (.iconst 1, 1) := dk_4 (dk_at dksX0_guestBest_0 13 rfl rfl)
theorem dX0_guestBest_14 : decode cX0_guestBest 14 = .ok (.ireturn, 1) := dk_172 (dk_at dksX0_guestBest_0 14 rfl rfl)
theorem dX0_guestBest_15 : decode cX0_guestBest 15 = .ok (.iconst 0, 1) := dk_3 (dk_at dksX0_guestBest_0 15 rfl rfl)
theorem dX0_guestBest_16 : decode cX0_guestBest 16 = .ok (.ireturn, 1) := dk_172 (dk_at dksX0_guestBest_0 16 rfl rfl)
abbrev cX0_rather : ByteArray := method_21_code
def yX0_rather : MethodName := ⟨RX0, "rather", "(LVisitingHours;[J)I"⟩
def dkwX0_rather_0 : List UInt8 := [43, 3, 42, 182, 0, 80, 133, 80, 167, 0, 6, 77, 4, 172, 3, 172]
abbrev dktX0_rather_0 : List UInt8 := dkwX0_rather_0 ++ []
theorem dksX0_rather_0 : cX0_rather.data.toList.drop 0 = dktX0_rather_0 := by decide +kernel
theorem dX0_rather_0 : decode cX0_rather 0 = .ok (.aload_n 1, 1) := dk_43 (dk_at dksX0_rather_0 0 rfl rfl)
theorem dX0_rather_1 : decode cX0_rather 1 = .ok (.iconst 0, 1) := dk_3 (dk_at dksX0_rather_0 1 rfl rfl)
theorem dX0_rather_2 : decode cX0_rather 2 = .ok (.aload_n 0, 1) := dk_42 (dk_at dksX0_rather_0 2 rfl rfl)
theorem dX0_rather_3 : decode cX0_rather 3 = .ok (.invokevirtual 80, 3) := dk_182 0 80 (dk_at dksX0_rather_0 3 rfl rfl)
theorem dX0_rather_6 : decode cX0_rather 6 = .ok (.i2l, 1) := dk_133 (dk_at dksX0_rather_0 6 rfl rfl)
theorem dX0_rather_7 : decode cX0_rather 7 = .ok (.lastore, 1) := dk_80 (dk_at dksX0_rather_0 7 rfl rfl)
theorem dX0_rather_8 : decode cX0_rather 8 = .ok (.goto 6, 3) := dk_167 0 6 (dk_at dksX0_rather_0 8 rfl rfl)
theorem dX0_rather_11 : decode cX0_rather 11 = .ok (.astore_n 2, 1) := dk_77 (dk_at dksX0_rather_0 11 rfl rfl)
theorem dX0_rather_12 : decode cX0_rather 12 = .ok (.iconst 1, 1) := dk_4 (dk_at dksX0_rather_0 12 rfl rfl)
theorem dX0_rather_13 : decode cX0_rather 13 = .ok (.ireturn, 1) := dk_172 (dk_at dksX0_rather_0 13 rfl rfl)
theorem dX0_rather_14 : decode cX0_rather 14 = .ok (.iconst 0, 1) := dk_3 (dk_at dksX0_rather_0 14 rfl rfl)
theorem dX0_rather_15 : decode cX0_rather 15 = .ok (.ireturn, 1) := dk_172 (dk_at dksX0_rather_0 15 rfl rfl)
abbrev cX0_row : ByteArray := method_22_code
def yX0_row : MethodName := ⟨RX0, "row", "(LVisitingHours;IIZ[J)I"⟩
def dkwX0_row_0 : List UInt8 := [25, 4, 3, 42, 27, 28, 29, 182, 0, 83, 133, 80, 167, 0, 7, 58, 5, 4, 172, 3, 172]
abbrev dktX0_row_0 : List UInt8 := dkwX0_row_0 ++ []
theorem dksX0_row_0 : cX0_row.data.toList.drop 0 = dktX0_row_0 := by decide +kernel
theorem dX0_row_0 : decode cX0_row 0 = .ok (.aload 4, 2) := dk_25 4 (dk_at dksX0_row_0 0 rfl rfl)
theorem dX0_row_2 : decode cX0_row 2 = .ok (.iconst 0, 1) := dk_3 (dk_at dksX0_row_0 2 rfl rfl)
theorem dX0_row_3 : decode cX0_row 3 = .ok (.aload_n 0, 1) := dk_42 (dk_at dksX0_row_0 3 rfl rfl)
theorem dX0_row_4 : decode cX0_row 4 = .ok (.iload_n 1, 1) := dk_27 (dk_at dksX0_row_0 4 rfl rfl)
theorem dX0_row_5 : decode cX0_row 5 = .ok (.iload_n 2, 1) := dk_28 (dk_at dksX0_row_0 5 rfl rfl)
theorem dX0_row_6 : decode cX0_row 6 = .ok (.iload_n 3, 1) := dk_29 (dk_at dksX0_row_0 6 rfl rfl)
theorem dX0_row_7 : decode cX0_row 7 = .ok (.invokevirtual 83, 3) := dk_182 0 83 (dk_at dksX0_row_0 7 rfl rfl)
theorem dX0_row_10 : decode cX0_row 10 = .ok (.i2l, 1) := dk_133 (dk_at dksX0_row_0 10 rfl rfl)
theorem dX0_row_11 : decode cX0_row 11 = .ok (.lastore, 1) := dk_80 (dk_at dksX0_row_0 11 rfl rfl)
theorem dX0_row_12 : decode cX0_row 12 = .ok (.goto 7, 3) := dk_167 0 7 (dk_at dksX0_row_0 12 rfl rfl)
theorem dX0_row_15 : decode cX0_row 15 = .ok (.astore 5, 2) := dk_58 5 (dk_at dksX0_row_0 15 rfl rfl)
theorem dX0_row_17 : decode cX0_row 17 = .ok (.iconst 1, 1) := dk_4 (dk_at dksX0_row_0 17 rfl rfl)
theorem dX0_row_18 : decode cX0_row 18 = .ok (.ireturn, 1) := dk_172 (dk_at dksX0_row_0 18 rfl rfl)
theorem dX0_row_19 : decode cX0_row 19 = .ok (.iconst 0, 1) := dk_3 (dk_at dksX0_row_0 19 rfl rfl)
theorem dX0_row_20 : decode cX0_row 20 = .ok (.ireturn, 1) := dk_172 (dk_at dksX0_row_0 20 rfl rfl)
abbrev cX0_afternoon : ByteArray := method_23_code
def yX0_afternoon : MethodName := ⟨RX0, "afternoon", "(LVisitingHours;II[J)I"⟩
def dkwX0_afternoon_0 : List UInt8 := [45, 3, 42, 27, 28, 182, 0, 86, 133, 80, 167, 0, 7, 58, 4, 4, 172, 3, 172]
abbrev dktX0_afternoon_0 : List UInt8 := dkwX0_afternoon_0 ++ []
theorem dksX0_afternoon_0 : cX0_afternoon.data.toList.drop 0 = dktX0_afternoon_0 := by decide +kernel
theorem dX0_afternoon_0 : decode cX0_afternoon 0 = .ok (.aload_n 3, 1) := dk_45 (dk_at dksX0_afternoon_0 0 rfl rfl)
theorem dX0_afternoon_1 : decode cX0_afternoon 1 = .ok (.iconst 0, 1) := dk_3 (dk_at dksX0_afternoon_0 1 rfl rfl)
theorem dX0_afternoon_2 : decode cX0_afternoon 2 = .ok (.aload_n 0, 1) := dk_42 (dk_at dksX0_afternoon_0 2 rfl rfl)
theorem dX0_afternoon_3 : decode cX0_afternoon 3 = .ok (.iload_n 1, 1) := dk_27 (dk_at dksX0_afternoon_0 3 rfl rfl)
theorem dX0_afternoon_4 : decode cX0_afternoon 4 = .ok (.iload_n 2, 1) := dk_28 (dk_at dksX0_afternoon_0 4 rfl rfl)
theorem dX0_afternoon_5 : decode cX0_afternoon 5 = .ok (.invokevirtual 86, 3) := dk_182 0 86 (dk_at dksX0_afternoon_0 5 rfl rfl)
theorem dX0_afternoon_8 : decode cX0_afternoon 8 = .ok (.i2l, 1) := dk_133 (dk_at dksX0_afternoon_0 8 rfl rfl)
theorem dX0_afternoon_9 : decode cX0_afternoon 9 = .ok (.lastore, 1) := dk_80 (dk_at dksX0_afternoon_0 9 rfl rfl)
theorem dX0_afternoon_10 : decode cX0_afternoon 10 = .ok (.goto 7, 3) := dk_167 0 7 (dk_at dksX0_afternoon_0 10 rfl rfl)
theorem dX0_afternoon_13 : decode cX0_afternoon 13 = .ok (.astore 4, 2) := dk_58 4 (dk_at dksX0_afternoon_0 13 rfl rfl)
theorem dX0_afternoon_15 : decode cX0_afternoon 15 = .ok (.iconst 1, 1) := dk_4 (dk_at dksX0_afternoon_0 15 rfl rfl)
theorem dX0_afternoon_16 : decode cX0_afternoon 16 = .ok (.ireturn, 1) := dk_172 (dk_at dksX0_afternoon_0 16 rfl rfl)
theorem dX0_afternoon_17 : decode cX0_afternoon 17 = .ok (.iconst 0, 1) := dk_3 (dk_at dksX0_afternoon_0 17 rfl rfl)
theorem dX0_afternoon_18 : decode cX0_afternoon 18 = .ok (.ireturn, 1) := dk_172 (dk_at dksX0_afternoon_0 18 rfl rfl)
abbrev cX0_rules : ByteArray := method_24_code
def yX0_rules : MethodName := ⟨RX0, "rules", "(LVisitingHours;Z[J)I"⟩
def dkwX0_rules_0 : List UInt8 := [44, 3, 42, 27, 182, 0, 89, 133, 80, 167, 0, 6, 78, 4, 172, 3, 172]
abbrev dktX0_rules_0 : List UInt8 := dkwX0_rules_0 ++ []
theorem dksX0_rules_0 : cX0_rules.data.toList.drop 0 = dktX0_rules_0 := by decide +kernel
theorem dX0_rules_0 : decode cX0_rules 0 = .ok (.aload_n 2, 1) := dk_44 (dk_at dksX0_rules_0 0 rfl rfl)
theorem dX0_rules_1 : decode cX0_rules 1 = .ok (.iconst 0, 1) := dk_3 (dk_at dksX0_rules_0 1 rfl rfl)
theorem dX0_rules_2 : decode cX0_rules 2 = .ok (.aload_n 0, 1) := dk_42 (dk_at dksX0_rules_0 2 rfl rfl)
theorem dX0_rules_3 : decode cX0_rules 3 = .ok (.iload_n 1, 1) := dk_27 (dk_at dksX0_rules_0 3 rfl rfl)
theorem dX0_rules_4 : decode cX0_rules 4 = .ok (.invokevirtual 89, 3) := dk_182 0 89 (dk_at dksX0_rules_0 4 rfl rfl)
theorem dX0_rules_7 : decode cX0_rules 7 = .ok (.i2l, 1) := dk_133 (dk_at dksX0_rules_0 7 rfl rfl)
theorem dX0_rules_8 : decode cX0_rules 8 = .ok (.lastore, 1) := dk_80 (dk_at dksX0_rules_0 8 rfl rfl)
theorem dX0_rules_9 : decode cX0_rules 9 = .ok (.goto 6, 3) := dk_167 0 6 (dk_at dksX0_rules_0 9 rfl rfl)
theorem dX0_rules_12 : decode cX0_rules 12 = .ok (.astore_n 3, 1) := dk_78 (dk_at dksX0_rules_0 12 rfl rfl)
theorem dX0_rules_13 : decode cX0_rules 13 = .ok (.iconst 1, 1) := dk_4 (dk_at dksX0_rules_0 13 rfl rfl)
theorem dX0_rules_14 : decode cX0_rules 14 = .ok (.ireturn, 1) := dk_172 (dk_at dksX0_rules_0 14 rfl rfl)
theorem dX0_rules_15 : decode cX0_rules 15 = .ok (.iconst 0, 1) := dk_3 (dk_at dksX0_rules_0 15 rfl rfl)
theorem dX0_rules_16 : decode cX0_rules 16 = .ok (.ireturn, 1) := dk_172 (dk_at dksX0_rules_0 16 rfl rfl)
abbrev cX0_send : ByteArray := method_25_code
def yX0_send : MethodName := ⟨RX0, "send", "(LVisitingHours;[J)I"⟩
def dkwX0_send_0 : List UInt8 := [43, 3, 42, 182, 0, 93, 133, 80, 167, 0, 6, 77, 4, 172, 3, 172]
abbrev dktX0_send_0 : List UInt8 := dkwX0_send_0 ++ []
theorem dksX0_send_0 : cX0_send.data.toList.drop 0 = dktX0_send_0 := by decide +kernel
theorem dX0_send_0 : decode cX0_send 0 = .ok (.aload_n 1, 1) := dk_43 (dk_at dksX0_send_0 0 rfl rfl)
theorem dX0_send_1 : decode cX0_send 1 = .ok (.iconst 0, 1) := dk_3 (dk_at dksX0_send_0 1 rfl rfl)
theorem dX0_send_2 : decode cX0_send 2 = .ok (.aload_n 0, 1) := dk_42 (dk_at dksX0_send_0 2 rfl rfl)
theorem dX0_send_3 : decode cX0_send 3 = .ok (.invokevirtual 93, 3) := dk_182 0 93 (dk_at dksX0_send_0 3 rfl rfl)
theorem dX0_send_6 : decode cX0_send 6 = .ok (.i2l, 1) := dk_133 (dk_at dksX0_send_0 6 rfl rfl)
theorem dX0_send_7 : decode cX0_send 7 = .ok (.lastore, 1) := dk_80 (dk_at dksX0_send_0 7 rfl rfl)
theorem dX0_send_8 : decode cX0_send 8 = .ok (.goto 6, 3) := dk_167 0 6 (dk_at dksX0_send_0 8 rfl rfl)
theorem dX0_send_11 : decode cX0_send 11 = .ok (.astore_n 2, 1) := dk_77 (dk_at dksX0_send_0 11 rfl rfl)
theorem dX0_send_12 : decode cX0_send 12 = .ok (.iconst 1, 1) := dk_4 (dk_at dksX0_send_0 12 rfl rfl)
theorem dX0_send_13 : decode cX0_send 13 = .ok (.ireturn, 1) := dk_172 (dk_at dksX0_send_0 13 rfl rfl)
theorem dX0_send_14 : decode cX0_send 14 = .ok (.iconst 0, 1) := dk_3 (dk_at dksX0_send_0 14 rfl rfl)
theorem dX0_send_15 : decode cX0_send 15 = .ok (.ireturn, 1) := dk_172 (dk_at dksX0_send_0 15 rfl rfl)
abbrev cX0_hand : ByteArray := method_26_code
def yX0_hand : MethodName := ⟨RX0, "hand", "(LVisitingHours;Z[J)I"⟩
def dkwX0_hand_0 : List UInt8 := [44, 3, 42, 27, 182, 0, 96, 133, 80, 167, 0, 6, 78, 4, 172, 3, 172]
abbrev dktX0_hand_0 : List UInt8 := dkwX0_hand_0 ++ []
theorem dksX0_hand_0 : cX0_hand.data.toList.drop 0 = dktX0_hand_0 := by decide +kernel
theorem dX0_hand_0 : decode cX0_hand 0 = .ok (.aload_n 2, 1) := dk_44 (dk_at dksX0_hand_0 0 rfl rfl)
theorem dX0_hand_1 : decode cX0_hand 1 = .ok (.iconst 0, 1) := dk_3 (dk_at dksX0_hand_0 1 rfl rfl)
theorem dX0_hand_2 : decode cX0_hand 2 = .ok (.aload_n 0, 1) := dk_42 (dk_at dksX0_hand_0 2 rfl rfl)
theorem dX0_hand_3 : decode cX0_hand 3 = .ok (.iload_n 1, 1) := dk_27 (dk_at dksX0_hand_0 3 rfl rfl)
theorem dX0_hand_4 : decode cX0_hand 4 = .ok (.invokevirtual 96, 3) := dk_182 0 96 (dk_at dksX0_hand_0 4 rfl rfl)
theorem dX0_hand_7 : decode cX0_hand 7 = .ok (.i2l, 1) := dk_133 (dk_at dksX0_hand_0 7 rfl rfl)
theorem dX0_hand_8 : decode cX0_hand 8 = .ok (.lastore, 1) := dk_80 (dk_at dksX0_hand_0 8 rfl rfl)
theorem dX0_hand_9 : decode cX0_hand 9 = .ok (.goto 6, 3) := dk_167 0 6 (dk_at dksX0_hand_0 9 rfl rfl)
theorem dX0_hand_12 : decode cX0_hand 12 = .ok (.astore_n 3, 1) := dk_78 (dk_at dksX0_hand_0 12 rfl rfl)
theorem dX0_hand_13 : decode cX0_hand 13 = .ok (.iconst 1, 1) := dk_4 (dk_at dksX0_hand_0 13 rfl rfl)
theorem dX0_hand_14 : decode cX0_hand 14 = .ok (.ireturn, 1) := dk_172 (dk_at dksX0_hand_0 14 rfl rfl)
theorem dX0_hand_15 : decode cX0_hand 15 = .ok (.iconst 0, 1) := dk_3 (dk_at dksX0_hand_0 15 rfl rfl)
theorem dX0_hand_16 : decode cX0_hand 16 = .ok (.ireturn, 1) := dk_172 (dk_at dksX0_hand_0 16 rfl rfl)
abbrev cX0_saved : ByteArray := method_27_code
def yX0_saved : MethodName := ⟨RX0, "saved", "(LVisitingHours;II[J)I"⟩
def dkwX0_saved_0 : List UInt8 := [45, 3, 42, 27, 28, 182, 0, 99, 133, 80, 167, 0, 7, 58, 4, 4, 172, 3, 172]
abbrev dktX0_saved_0 : List UInt8 := dkwX0_saved_0 ++ []
theorem dksX0_saved_0 : cX0_saved.data.toList.drop 0 = dktX0_saved_0 := by decide +kernel
theorem dX0_saved_0 : decode cX0_saved 0 = .ok (.aload_n 3, 1) := dk_45 (dk_at dksX0_saved_0 0 rfl rfl)
theorem dX0_saved_1 : decode cX0_saved 1 = .ok (.iconst 0, 1) := dk_3 (dk_at dksX0_saved_0 1 rfl rfl)
theorem dX0_saved_2 : decode cX0_saved 2 = .ok (.aload_n 0, 1) := dk_42 (dk_at dksX0_saved_0 2 rfl rfl)
theorem dX0_saved_3 : decode cX0_saved 3 = .ok (.iload_n 1, 1) := dk_27 (dk_at dksX0_saved_0 3 rfl rfl)
theorem dX0_saved_4 : decode cX0_saved 4 = .ok (.iload_n 2, 1) := dk_28 (dk_at dksX0_saved_0 4 rfl rfl)
theorem dX0_saved_5 : decode cX0_saved 5 = .ok (.invokevirtual 99, 3) := dk_182 0 99 (dk_at dksX0_saved_0 5 rfl rfl)
theorem dX0_saved_8 : decode cX0_saved 8 = .ok (.i2l, 1) := dk_133 (dk_at dksX0_saved_0 8 rfl rfl)
theorem dX0_saved_9 : decode cX0_saved 9 = .ok (.lastore, 1) := dk_80 (dk_at dksX0_saved_0 9 rfl rfl)
theorem dX0_saved_10 : decode cX0_saved 10 = .ok (.goto 7, 3) := dk_167 0 7 (dk_at dksX0_saved_0 10 rfl rfl)
theorem dX0_saved_13 : decode cX0_saved 13 = .ok (.astore 4, 2) := dk_58 4 (dk_at dksX0_saved_0 13 rfl rfl)
theorem dX0_saved_15 : decode cX0_saved 15 = .ok (.iconst 1, 1) := dk_4 (dk_at dksX0_saved_0 15 rfl rfl)
theorem dX0_saved_16 : decode cX0_saved 16 = .ok (.ireturn, 1) := dk_172 (dk_at dksX0_saved_0 16 rfl rfl)
theorem dX0_saved_17 : decode cX0_saved 17 = .ok (.iconst 0, 1) := dk_3 (dk_at dksX0_saved_0 17 rfl rfl)
theorem dX0_saved_18 : decode cX0_saved 18 = .ok (.ireturn, 1) := dk_172 (dk_at dksX0_saved_0 18 rfl rfl)
abbrev cX0_lend : ByteArray := method_28_code
def yX0_lend : MethodName := ⟨RX0, "lend", "(LVisitingHours;I[J)I"⟩
def dkwX0_lend_0 : List UInt8 := [44, 3, 42, 27, 182, 0, 102, 133, 80, 167, 0, 6, 78, 4, 172, 3, 172]
abbrev dktX0_lend_0 : List UInt8 := dkwX0_lend_0 ++ []
theorem dksX0_lend_0 : cX0_lend.data.toList.drop 0 = dktX0_lend_0 := by decide +kernel
theorem dX0_lend_0 : decode cX0_lend 0 = .ok (.aload_n 2, 1) := dk_44 (dk_at dksX0_lend_0 0 rfl rfl)
theorem dX0_lend_1 : decode cX0_lend 1 = .ok (.iconst 0, 1) := dk_3 (dk_at dksX0_lend_0 1 rfl rfl)
theorem dX0_lend_2 : decode cX0_lend 2 = .ok (.aload_n 0, 1) := dk_42 (dk_at dksX0_lend_0 2 rfl rfl)
theorem dX0_lend_3 : decode cX0_lend 3 = .ok (.iload_n 1, 1) := dk_27 (dk_at dksX0_lend_0 3 rfl rfl)
theorem dX0_lend_4 : decode cX0_lend 4 = .ok (.invokevirtual 102, 3) := dk_182 0 102 (dk_at dksX0_lend_0 4 rfl rfl)
theorem dX0_lend_7 : decode cX0_lend 7 = .ok (.i2l, 1) := dk_133 (dk_at dksX0_lend_0 7 rfl rfl)
theorem dX0_lend_8 : decode cX0_lend 8 = .ok (.lastore, 1) := dk_80 (dk_at dksX0_lend_0 8 rfl rfl)
theorem dX0_lend_9 : decode cX0_lend 9 = .ok (.goto 6, 3) := dk_167 0 6 (dk_at dksX0_lend_0 9 rfl rfl)
theorem dX0_lend_12 : decode cX0_lend 12 = .ok (.astore_n 3, 1) := dk_78 (dk_at dksX0_lend_0 12 rfl rfl)
theorem dX0_lend_13 : decode cX0_lend 13 = .ok (.iconst 1, 1) := dk_4 (dk_at dksX0_lend_0 13 rfl rfl)
theorem dX0_lend_14 : decode cX0_lend 14 = .ok (.ireturn, 1) := dk_172 (dk_at dksX0_lend_0 14 rfl rfl)
theorem dX0_lend_15 : decode cX0_lend 15 = .ok (.iconst 0, 1) := dk_3 (dk_at dksX0_lend_0 15 rfl rfl)
theorem dX0_lend_16 : decode cX0_lend 16 = .ok (.ireturn, 1) := dk_172 (dk_at dksX0_lend_0 16 rfl rfl)
abbrev cX0_odds : ByteArray := method_29_code
def yX0_odds : MethodName := ⟨RX0, "odds", "(LVisitingHours;II[J)I"⟩
def dkwX0_odds_0 : List UInt8 := [45, 3, 42, 27, 28, 182, 0, 105, 133, 80, 167, 0, 7, 58, 4, 4, 172, 3, 172]
abbrev dktX0_odds_0 : List UInt8 := dkwX0_odds_0 ++ []
theorem dksX0_odds_0 : cX0_odds.data.toList.drop 0 = dktX0_odds_0 := by decide +kernel
theorem dX0_odds_0 : decode cX0_odds 0 = .ok (.aload_n 3, 1) := dk_45 (dk_at dksX0_odds_0 0 rfl rfl)
theorem dX0_odds_1 : decode cX0_odds 1 = .ok (.iconst 0, 1) := dk_3 (dk_at dksX0_odds_0 1 rfl rfl)
theorem dX0_odds_2 : decode cX0_odds 2 = .ok (.aload_n 0, 1) := dk_42 (dk_at dksX0_odds_0 2 rfl rfl)
theorem dX0_odds_3 : decode cX0_odds 3 = .ok (.iload_n 1, 1) := dk_27 (dk_at dksX0_odds_0 3 rfl rfl)
theorem dX0_odds_4 : decode cX0_odds 4 = .ok (.iload_n 2, 1) := dk_28 (dk_at dksX0_odds_0 4 rfl rfl)
theorem dX0_odds_5 : decode cX0_odds 5 = .ok (.invokevirtual 105, 3) := dk_182 0 105 (dk_at dksX0_odds_0 5 rfl rfl)
theorem dX0_odds_8 : decode cX0_odds 8 = .ok (.i2l, 1) := dk_133 (dk_at dksX0_odds_0 8 rfl rfl)
theorem dX0_odds_9 : decode cX0_odds 9 = .ok (.lastore, 1) := dk_80 (dk_at dksX0_odds_0 9 rfl rfl)
theorem dX0_odds_10 : decode cX0_odds 10 = .ok (.goto 7, 3) := dk_167 0 7 (dk_at dksX0_odds_0 10 rfl rfl)
theorem dX0_odds_13 : decode cX0_odds 13 = .ok (.astore 4, 2) := dk_58 4 (dk_at dksX0_odds_0 13 rfl rfl)
theorem dX0_odds_15 : decode cX0_odds 15 = .ok (.iconst 1, 1) := dk_4 (dk_at dksX0_odds_0 15 rfl rfl)
theorem dX0_odds_16 : decode cX0_odds 16 = .ok (.ireturn, 1) := dk_172 (dk_at dksX0_odds_0 16 rfl rfl)
theorem dX0_odds_17 : decode cX0_odds 17 = .ok (.iconst 0, 1) := dk_3 (dk_at dksX0_odds_0 17 rfl rfl)
theorem dX0_odds_18 : decode cX0_odds 18 = .ok (.ireturn, 1) := dk_172 (dk_at dksX0_odds_0 18 rfl rfl)
abbrev cX0_waits : ByteArray := method_30_code
def yX0_waits : MethodName := ⟨RX0, "waits", "(LVisitingHours;II[J)I"⟩
def dkwX0_waits_0 : List UInt8 := [45, 3, 42, 27, 28, 182, 0, 108, 133, 80, 167, 0, 11, 58, 4, 4, 172, 58, 4, 5, 172, 3, 172]
abbrev dktX0_waits_0 : List UInt8 := dkwX0_waits_0 ++ []
theorem dksX0_waits_0 : cX0_waits.data.toList.drop 0 = dktX0_waits_0 := by decide +kernel
theorem dX0_waits_0 : decode cX0_waits 0 = .ok (.aload_n 3, 1) := dk_45 (dk_at dksX0_waits_0 0 rfl rfl)
theorem dX0_waits_1 : decode cX0_waits 1 = .ok (.iconst 0, 1) := dk_3 (dk_at dksX0_waits_0 1 rfl rfl)
theorem dX0_waits_2 : decode cX0_waits 2 = .ok (.aload_n 0, 1) := dk_42 (dk_at dksX0_waits_0 2 rfl rfl)
theorem dX0_waits_3 : decode cX0_waits 3 = .ok (.iload_n 1, 1) := dk_27 (dk_at dksX0_waits_0 3 rfl rfl)
theorem dX0_waits_4 : decode cX0_waits 4 = .ok (.iload_n 2, 1) := dk_28 (dk_at dksX0_waits_0 4 rfl rfl)
theorem dX0_waits_5 : decode cX0_waits 5 = .ok (.invokevirtual 108, 3) := dk_182 0 108 (dk_at dksX0_waits_0 5 rfl rfl)
theorem dX0_waits_8 : decode cX0_waits 8 = .ok (.i2l, 1) := dk_133 (dk_at dksX0_waits_0 8 rfl rfl)
theorem dX0_waits_9 : decode cX0_waits 9 = .ok (.lastore, 1) := dk_80 (dk_at dksX0_waits_0 9 rfl rfl)
theorem dX0_waits_10 : decode cX0_waits 10 = .ok (.goto 11, 3) := dk_167 0 11 (dk_at dksX0_waits_0 10 rfl rfl)
theorem dX0_waits_13 : decode cX0_waits 13 = .ok (.astore 4, 2) := dk_58 4 (dk_at dksX0_waits_0 13 rfl rfl)
theorem dX0_waits_15 : decode cX0_waits 15 = .ok (.iconst 1, 1) := dk_4 (dk_at dksX0_waits_0 15 rfl rfl)
theorem dX0_waits_16 : decode cX0_waits 16 = .ok (.ireturn, 1) := dk_172 (dk_at dksX0_waits_0 16 rfl rfl)
theorem dX0_waits_17 : decode cX0_waits 17 = .ok (.astore 4, 2) := dk_58 4 (dk_at dksX0_waits_0 17 rfl rfl)
theorem dX0_waits_19 : decode cX0_waits 19 = .ok (.iconst 2, 1) := dk_5 (dk_at dksX0_waits_0 19 rfl rfl)
theorem dX0_waits_20 : decode cX0_waits 20 = .ok (.ireturn, 1) := dk_172 (dk_at dksX0_waits_0 20 rfl rfl)
theorem dX0_waits_21 : decode cX0_waits 21 = .ok (.iconst 0, 1) := dk_3 (dk_at dksX0_waits_0 21 rfl rfl)
theorem dX0_waits_22 : decode cX0_waits 22 = .ok (.ireturn, 1) := dk_172 (dk_at dksX0_waits_0 22 rfl rfl)
abbrev cX0_treaty : ByteArray := method_31_code
def yX0_treaty : MethodName := ⟨RX0, "treaty", "(LVisitingHours;II[J)I"⟩
def dkwX0_treaty_0 : List UInt8 := [45, 3, 42, 27, 28, 182, 0, 111, 133, 80, 167, 0, 11, 58, 4, 4, 172, 58, 4, 5, 172, 3, 172]
abbrev dktX0_treaty_0 : List UInt8 := dkwX0_treaty_0 ++ []
theorem dksX0_treaty_0 : cX0_treaty.data.toList.drop 0 = dktX0_treaty_0 := by decide +kernel
theorem dX0_treaty_0 : decode cX0_treaty 0 = .ok (.aload_n 3, 1) := dk_45 (dk_at dksX0_treaty_0 0 rfl rfl)
theorem dX0_treaty_1 : decode cX0_treaty 1 = .ok (.iconst 0, 1) := dk_3 (dk_at dksX0_treaty_0 1 rfl rfl)
theorem dX0_treaty_2 : decode cX0_treaty 2 = .ok (.aload_n 0, 1) := dk_42 (dk_at dksX0_treaty_0 2 rfl rfl)
theorem dX0_treaty_3 : decode cX0_treaty 3 = .ok (.iload_n 1, 1) := dk_27 (dk_at dksX0_treaty_0 3 rfl rfl)
theorem dX0_treaty_4 : decode cX0_treaty 4 = .ok (.iload_n 2, 1) := dk_28 (dk_at dksX0_treaty_0 4 rfl rfl)
theorem dX0_treaty_5 : decode cX0_treaty 5 = .ok (.invokevirtual 111, 3) := dk_182 0 111 (dk_at dksX0_treaty_0 5 rfl rfl)
theorem dX0_treaty_8 : decode cX0_treaty 8 = .ok (.i2l, 1) := dk_133 (dk_at dksX0_treaty_0 8 rfl rfl)
theorem dX0_treaty_9 : decode cX0_treaty 9 = .ok (.lastore, 1) := dk_80 (dk_at dksX0_treaty_0 9 rfl rfl)
theorem dX0_treaty_10 : decode cX0_treaty 10 = .ok (.goto 11, 3) := dk_167 0 11 (dk_at dksX0_treaty_0 10 rfl rfl)
theorem dX0_treaty_13 : decode cX0_treaty 13 = .ok (.astore 4, 2) := dk_58 4 (dk_at dksX0_treaty_0 13 rfl rfl)
theorem dX0_treaty_15 : decode cX0_treaty 15 = .ok (.iconst 1, 1) := dk_4 (dk_at dksX0_treaty_0 15 rfl rfl)
theorem dX0_treaty_16 : decode cX0_treaty 16 = .ok (.ireturn, 1) := dk_172 (dk_at dksX0_treaty_0 16 rfl rfl)
theorem dX0_treaty_17 : decode cX0_treaty 17 = .ok (.astore 4, 2) := dk_58 4 (dk_at dksX0_treaty_0 17 rfl rfl)
theorem dX0_treaty_19 : decode cX0_treaty 19 = .ok (.iconst 2, 1) := dk_5 (dk_at dksX0_treaty_0 19 rfl rfl)
theorem dX0_treaty_20 : decode cX0_treaty 20 = .ok (.ireturn, 1) := dk_172 (dk_at dksX0_treaty_0 20 rfl rfl)
theorem dX0_treaty_21 : decode cX0_treaty 21 = .ok (.iconst 0, 1) := dk_3 (dk_at dksX0_treaty_0 21 rfl rfl)
theorem dX0_treaty_22 : decode cX0_treaty 22 = .ok (.ireturn, 1) := dk_172 (dk_at dksX0_treaty_0 22 rfl rfl)
abbrev cX0_rests : ByteArray := method_32_code
def yX0_rests : MethodName := ⟨RX0, "rests", "(LVisitingHours;II[J)I"⟩
def dkwX0_rests_0 : List UInt8 := [45, 3, 42, 27, 28, 182, 0, 114, 133, 80, 167, 0, 7, 58, 4, 4, 172, 3, 172]
abbrev dktX0_rests_0 : List UInt8 := dkwX0_rests_0 ++ []
theorem dksX0_rests_0 : cX0_rests.data.toList.drop 0 = dktX0_rests_0 := by decide +kernel
theorem dX0_rests_0 : decode cX0_rests 0 = .ok (.aload_n 3, 1) := dk_45 (dk_at dksX0_rests_0 0 rfl rfl)
theorem dX0_rests_1 : decode cX0_rests 1 = .ok (.iconst 0, 1) := dk_3 (dk_at dksX0_rests_0 1 rfl rfl)
theorem dX0_rests_2 : decode cX0_rests 2 = .ok (.aload_n 0, 1) := dk_42 (dk_at dksX0_rests_0 2 rfl rfl)
theorem dX0_rests_3 : decode cX0_rests 3 = .ok (.iload_n 1, 1) := dk_27 (dk_at dksX0_rests_0 3 rfl rfl)
theorem dX0_rests_4 : decode cX0_rests 4 = .ok (.iload_n 2, 1) := dk_28 (dk_at dksX0_rests_0 4 rfl rfl)
theorem dX0_rests_5 : decode cX0_rests 5 = .ok (.invokevirtual 114, 3) := dk_182 0 114 (dk_at dksX0_rests_0 5 rfl rfl)
theorem dX0_rests_8 : decode cX0_rests 8 = .ok (.i2l, 1) := dk_133 (dk_at dksX0_rests_0 8 rfl rfl)
theorem dX0_rests_9 : decode cX0_rests 9 = .ok (.lastore, 1) := dk_80 (dk_at dksX0_rests_0 9 rfl rfl)
theorem dX0_rests_10 : decode cX0_rests 10 = .ok (.goto 7, 3) := dk_167 0 7 (dk_at dksX0_rests_0 10 rfl rfl)
theorem dX0_rests_13 : decode cX0_rests 13 = .ok (.astore 4, 2) := dk_58 4 (dk_at dksX0_rests_0 13 rfl rfl)
theorem dX0_rests_15 : decode cX0_rests 15 = .ok (.iconst 1, 1) := dk_4 (dk_at dksX0_rests_0 15 rfl rfl)
theorem dX0_rests_16 : decode cX0_rests 16 = .ok (.ireturn, 1) := dk_172 (dk_at dksX0_rests_0 16 rfl rfl)
theorem dX0_rests_17 : decode cX0_rests 17 = .ok (.iconst 0, 1) := dk_3 (dk_at dksX0_rests_0 17 rfl rfl)
theorem dX0_rests_18 : decode cX0_rests 18 = .ok (.ireturn, 1) := dk_172 (dk_at dksX0_rests_0 18 rfl rfl)
abbrev cX0_settle : ByteArray := method_33_code
def yX0_settle : MethodName := ⟨RX0, "settle", "(LVisitingHours;I[J)I"⟩
def dkwX0_settle_0 : List UInt8 := [44, 3, 42, 27, 182, 0, 117, 133, 80, 167, 0, 6, 78, 4, 172, 3, 172]
abbrev dktX0_settle_0 : List UInt8 := dkwX0_settle_0 ++ []
theorem dksX0_settle_0 : cX0_settle.data.toList.drop 0 = dktX0_settle_0 := by decide +kernel
theorem dX0_settle_0 : decode cX0_settle 0 = .ok (.aload_n 2, 1) := dk_44 (dk_at dksX0_settle_0 0 rfl rfl)
theorem dX0_settle_1 : decode cX0_settle 1 = .ok (.iconst 0, 1) := dk_3 (dk_at dksX0_settle_0 1 rfl rfl)
theorem dX0_settle_2 : decode cX0_settle 2 = .ok (.aload_n 0, 1) := dk_42 (dk_at dksX0_settle_0 2 rfl rfl)
theorem dX0_settle_3 : decode cX0_settle 3 = .ok (.iload_n 1, 1) := dk_27 (dk_at dksX0_settle_0 3 rfl rfl)
theorem dX0_settle_4 : decode cX0_settle 4 = .ok (.invokevirtual 117, 3) := dk_182 0 117 (dk_at dksX0_settle_0 4 rfl rfl)
theorem dX0_settle_7 : decode cX0_settle 7 = .ok (.i2l, 1) := dk_133 (dk_at dksX0_settle_0 7 rfl rfl)
theorem dX0_settle_8 : decode cX0_settle 8 = .ok (.lastore, 1) := dk_80 (dk_at dksX0_settle_0 8 rfl rfl)
theorem dX0_settle_9 : decode cX0_settle 9 = .ok (.goto 6, 3) := dk_167 0 6 (dk_at dksX0_settle_0 9 rfl rfl)
theorem dX0_settle_12 : decode cX0_settle 12 = .ok (.astore_n 3, 1) := dk_78 (dk_at dksX0_settle_0 12 rfl rfl)
theorem dX0_settle_13 : decode cX0_settle 13 = .ok (.iconst 1, 1) := dk_4 (dk_at dksX0_settle_0 13 rfl rfl)
theorem dX0_settle_14 : decode cX0_settle 14 = .ok (.ireturn, 1) := dk_172 (dk_at dksX0_settle_0 14 rfl rfl)
theorem dX0_settle_15 : decode cX0_settle 15 = .ok (.iconst 0, 1) := dk_3 (dk_at dksX0_settle_0 15 rfl rfl)
theorem dX0_settle_16 : decode cX0_settle 16 = .ok (.ireturn, 1) := dk_172 (dk_at dksX0_settle_0 16 rfl rfl)
abbrev cX0_gladder : ByteArray := method_34_code
def yX0_gladder : MethodName := ⟨RX0, "gladder", "(LVisitingHours;I[J)I"⟩
def dkwX0_gladder_0 : List UInt8 := [44, 3, 42, 27, 182, 0, 120, 133, 80, 167, 0, 6, 78, 4, 172, 3, 172]
abbrev dktX0_gladder_0 : List UInt8 := dkwX0_gladder_0 ++ []
theorem dksX0_gladder_0 : cX0_gladder.data.toList.drop 0 = dktX0_gladder_0 := by decide +kernel
theorem dX0_gladder_0 : decode cX0_gladder 0 = .ok (.aload_n 2, 1) := dk_44 (dk_at dksX0_gladder_0 0 rfl rfl)
theorem dX0_gladder_1 : decode cX0_gladder 1 = .ok (.iconst 0, 1) := dk_3 (dk_at dksX0_gladder_0 1 rfl rfl)
theorem dX0_gladder_2 : decode cX0_gladder 2 = .ok (.aload_n 0, 1) := dk_42 (dk_at dksX0_gladder_0 2 rfl rfl)
theorem dX0_gladder_3 : decode cX0_gladder 3 = .ok (.iload_n 1, 1) := dk_27 (dk_at dksX0_gladder_0 3 rfl rfl)
theorem dX0_gladder_4 : decode cX0_gladder 4 = .ok (.invokevirtual 120, 3) := dk_182 0 120 (dk_at dksX0_gladder_0 4 rfl rfl)
theorem dX0_gladder_7 : decode cX0_gladder 7 = .ok (.i2l, 1) := dk_133 (dk_at dksX0_gladder_0 7 rfl rfl)
theorem dX0_gladder_8 : decode cX0_gladder 8 = .ok (.lastore, 1) := dk_80 (dk_at dksX0_gladder_0 8 rfl rfl)
theorem dX0_gladder_9 : decode cX0_gladder 9 = .ok (.goto 6, 3) := dk_167 0 6 (dk_at dksX0_gladder_0 9 rfl rfl)
theorem dX0_gladder_12 : decode cX0_gladder 12 = .ok (.astore_n 3, 1) := dk_78 (dk_at dksX0_gladder_0 12 rfl rfl)
theorem dX0_gladder_13 : decode cX0_gladder 13 = .ok (.iconst 1, 1) := dk_4 (dk_at dksX0_gladder_0 13 rfl rfl)
theorem dX0_gladder_14 : decode cX0_gladder 14 = .ok (.ireturn, 1) := dk_172 (dk_at dksX0_gladder_0 14 rfl rfl)
theorem dX0_gladder_15 : decode cX0_gladder 15 = .ok (.iconst 0, 1) := dk_3 (dk_at dksX0_gladder_0 15 rfl rfl)
theorem dX0_gladder_16 : decode cX0_gladder 16 = .ok (.ireturn, 1) := dk_172 (dk_at dksX0_gladder_0 16 rfl rfl)
abbrev cX0_ahead : ByteArray := method_35_code
def yX0_ahead : MethodName := ⟨RX0, "ahead", "(LVisitingHours;III[J)I"⟩
def dkwX0_ahead_1 : List UInt8 := [58, 5, 6, 172, 3, 172]
abbrev dktX0_ahead_1 : List UInt8 := dkwX0_ahead_1 ++ []
def dkwX0_ahead_0 : List UInt8 := [25, 4, 3, 42, 27, 28, 29, 182, 0, 123, 133, 80, 167, 0, 15, 58, 5, 4, 172, 58, 5, 5, 172]
abbrev dktX0_ahead_0 : List UInt8 := dkwX0_ahead_0 ++ dktX0_ahead_1
theorem dksX0_ahead_0 : cX0_ahead.data.toList.drop 0 = dktX0_ahead_0 := by decide +kernel
theorem dksX0_ahead_1 : cX0_ahead.data.toList.drop 23 = dktX0_ahead_1 := dk_seg dksX0_ahead_0 23 rfl rfl
theorem dX0_ahead_0 : decode cX0_ahead 0 = .ok (.aload 4, 2) := dk_25 4 (dk_at dksX0_ahead_0 0 rfl rfl)
theorem dX0_ahead_2 : decode cX0_ahead 2 = .ok (.iconst 0, 1) := dk_3 (dk_at dksX0_ahead_0 2 rfl rfl)
theorem dX0_ahead_3 : decode cX0_ahead 3 = .ok (.aload_n 0, 1) := dk_42 (dk_at dksX0_ahead_0 3 rfl rfl)
theorem dX0_ahead_4 : decode cX0_ahead 4 = .ok (.iload_n 1, 1) := dk_27 (dk_at dksX0_ahead_0 4 rfl rfl)
theorem dX0_ahead_5 : decode cX0_ahead 5 = .ok (.iload_n 2, 1) := dk_28 (dk_at dksX0_ahead_0 5 rfl rfl)
theorem dX0_ahead_6 : decode cX0_ahead 6 = .ok (.iload_n 3, 1) := dk_29 (dk_at dksX0_ahead_0 6 rfl rfl)
theorem dX0_ahead_7 : decode cX0_ahead 7 = .ok (.invokevirtual 123, 3) := dk_182 0 123 (dk_at dksX0_ahead_0 7 rfl rfl)
theorem dX0_ahead_10 : decode cX0_ahead 10 = .ok (.i2l, 1) := dk_133 (dk_at dksX0_ahead_0 10 rfl rfl)
theorem dX0_ahead_11 : decode cX0_ahead 11 = .ok (.lastore, 1) := dk_80 (dk_at dksX0_ahead_0 11 rfl rfl)
theorem dX0_ahead_12 : decode cX0_ahead 12 = .ok (.goto 15, 3) := dk_167 0 15 (dk_at dksX0_ahead_0 12 rfl rfl)
theorem dX0_ahead_15 : decode cX0_ahead 15 = .ok (.astore 5, 2) := dk_58 5 (dk_at dksX0_ahead_0 15 rfl rfl)
theorem dX0_ahead_17 : decode cX0_ahead 17 = .ok (.iconst 1, 1) := dk_4 (dk_at dksX0_ahead_0 17 rfl rfl)
theorem dX0_ahead_18 : decode cX0_ahead 18 = .ok (.ireturn, 1) := dk_172 (dk_at dksX0_ahead_0 18 rfl rfl)
theorem dX0_ahead_19 : decode cX0_ahead 19 = .ok (.astore 5, 2) := dk_58 5 (dk_at dksX0_ahead_0 19 rfl rfl)
theorem dX0_ahead_21 : decode cX0_ahead 21 = .ok (.iconst 2, 1) := dk_5 (dk_at dksX0_ahead_0 21 rfl rfl)
theorem dX0_ahead_22 : decode cX0_ahead 22 = .ok (.ireturn, 1) := dk_172 (dk_at dksX0_ahead_0 22 rfl rfl)
theorem dX0_ahead_23 : decode cX0_ahead 23 = .ok (.astore 5, 2) := dk_58 5 (dk_at dksX0_ahead_1 0 rfl rfl)
theorem dX0_ahead_25 : decode cX0_ahead 25 = .ok (.iconst 3, 1) := dk_6 (dk_at dksX0_ahead_1 2 rfl rfl)
theorem dX0_ahead_26 : decode cX0_ahead 26 = .ok (.ireturn, 1) := dk_172 (dk_at dksX0_ahead_1 3 rfl rfl)
theorem dX0_ahead_27 : decode cX0_ahead 27 = .ok (.iconst 0, 1) := dk_3 (dk_at dksX0_ahead_1 4 rfl rfl)
theorem dX0_ahead_28 : decode cX0_ahead 28 = .ok (.ireturn, 1) := dk_172 (dk_at dksX0_ahead_1 5 rfl rfl)
abbrev cX0_trial : ByteArray := method_36_code
def yX0_trial : MethodName := ⟨RX0, "trial", "(LVisitingHours;IZ[J)I"⟩
def dkwX0_trial_0 : List UInt8 := [45, 3, 42, 27, 28, 182, 0, 126, 133, 80, 167, 0, 7, 58, 4, 4, 172, 3, 172]
abbrev dktX0_trial_0 : List UInt8 := dkwX0_trial_0 ++ []
theorem dksX0_trial_0 : cX0_trial.data.toList.drop 0 = dktX0_trial_0 := by decide +kernel
theorem dX0_trial_0 : decode cX0_trial 0 = .ok (.aload_n 3, 1) := dk_45 (dk_at dksX0_trial_0 0 rfl rfl)
theorem dX0_trial_1 : decode cX0_trial 1 = .ok (.iconst 0, 1) := dk_3 (dk_at dksX0_trial_0 1 rfl rfl)
theorem dX0_trial_2 : decode cX0_trial 2 = .ok (.aload_n 0, 1) := dk_42 (dk_at dksX0_trial_0 2 rfl rfl)
theorem dX0_trial_3 : decode cX0_trial 3 = .ok (.iload_n 1, 1) := dk_27 (dk_at dksX0_trial_0 3 rfl rfl)
theorem dX0_trial_4 : decode cX0_trial 4 = .ok (.iload_n 2, 1) := dk_28 (dk_at dksX0_trial_0 4 rfl rfl)
theorem dX0_trial_5 : decode cX0_trial 5 = .ok (.invokevirtual 126, 3) := dk_182 0 126 (dk_at dksX0_trial_0 5 rfl rfl)
theorem dX0_trial_8 : decode cX0_trial 8 = .ok (.i2l, 1) := dk_133 (dk_at dksX0_trial_0 8 rfl rfl)
theorem dX0_trial_9 : decode cX0_trial 9 = .ok (.lastore, 1) := dk_80 (dk_at dksX0_trial_0 9 rfl rfl)
theorem dX0_trial_10 : decode cX0_trial 10 = .ok (.goto 7, 3) := dk_167 0 7 (dk_at dksX0_trial_0 10 rfl rfl)
theorem dX0_trial_13 : decode cX0_trial 13 = .ok (.astore 4, 2) := dk_58 4 (dk_at dksX0_trial_0 13 rfl rfl)
theorem dX0_trial_15 : decode cX0_trial 15 = .ok (.iconst 1, 1) := dk_4 (dk_at dksX0_trial_0 15 rfl rfl)
theorem dX0_trial_16 : decode cX0_trial 16 = .ok (.ireturn, 1) := dk_172 (dk_at dksX0_trial_0 16 rfl rfl)
theorem dX0_trial_17 : decode cX0_trial 17 = .ok (.iconst 0, 1) := dk_3 (dk_at dksX0_trial_0 17 rfl rfl)
theorem dX0_trial_18 : decode cX0_trial 18 = .ok (.ireturn, 1) := dk_172 (dk_at dksX0_trial_0 18 rfl rfl)
abbrev cX0_span : ByteArray := method_37_code
def yX0_span : MethodName := ⟨RX0, "span", "(LVisitingHours;IZ[J)I"⟩
def dkwX0_span_0 : List UInt8 := [45, 3, 42, 27, 28, 182, 0, 130, 133, 80, 167, 0, 7, 58, 4, 4, 172, 3, 172]
abbrev dktX0_span_0 : List UInt8 := dkwX0_span_0 ++ []
theorem dksX0_span_0 : cX0_span.data.toList.drop 0 = dktX0_span_0 := by decide +kernel
theorem dX0_span_0 : decode cX0_span 0 = .ok (.aload_n 3, 1) := dk_45 (dk_at dksX0_span_0 0 rfl rfl)
theorem dX0_span_1 : decode cX0_span 1 = .ok (.iconst 0, 1) := dk_3 (dk_at dksX0_span_0 1 rfl rfl)
theorem dX0_span_2 : decode cX0_span 2 = .ok (.aload_n 0, 1) := dk_42 (dk_at dksX0_span_0 2 rfl rfl)
theorem dX0_span_3 : decode cX0_span 3 = .ok (.iload_n 1, 1) := dk_27 (dk_at dksX0_span_0 3 rfl rfl)
theorem dX0_span_4 : decode cX0_span 4 = .ok (.iload_n 2, 1) := dk_28 (dk_at dksX0_span_0 4 rfl rfl)
theorem dX0_span_5 : decode cX0_span 5 = .ok (.invokevirtual 130, 3) := dk_182 0 130 (dk_at dksX0_span_0 5 rfl rfl)
theorem dX0_span_8 : decode cX0_span 8 = .ok (.i2l, 1) := dk_133 (dk_at dksX0_span_0 8 rfl rfl)
theorem dX0_span_9 : decode cX0_span 9 = .ok (.lastore, 1) := dk_80 (dk_at dksX0_span_0 9 rfl rfl)
theorem dX0_span_10 : decode cX0_span 10 = .ok (.goto 7, 3) := dk_167 0 7 (dk_at dksX0_span_0 10 rfl rfl)
theorem dX0_span_13 : decode cX0_span 13 = .ok (.astore 4, 2) := dk_58 4 (dk_at dksX0_span_0 13 rfl rfl)
theorem dX0_span_15 : decode cX0_span 15 = .ok (.iconst 1, 1) := dk_4 (dk_at dksX0_span_0 15 rfl rfl)
theorem dX0_span_16 : decode cX0_span 16 = .ok (.ireturn, 1) := dk_172 (dk_at dksX0_span_0 16 rfl rfl)
theorem dX0_span_17 : decode cX0_span 17 = .ok (.iconst 0, 1) := dk_3 (dk_at dksX0_span_0 17 rfl rfl)
theorem dX0_span_18 : decode cX0_span 18 = .ok (.ireturn, 1) := dk_172 (dk_at dksX0_span_0 18 rfl rfl)
abbrev cX0_led : ByteArray := method_38_code
def yX0_led : MethodName := ⟨RX0, "led", "(LVisitingHours;IZ[J)I"⟩
def dkwX0_led_0 : List UInt8 := [45, 3, 42, 27, 28, 182, 0, 133, 133, 80, 167, 0, 7, 58, 4, 4, 172, 3, 172]
abbrev dktX0_led_0 : List UInt8 := dkwX0_led_0 ++ []
theorem dksX0_led_0 : cX0_led.data.toList.drop 0 = dktX0_led_0 := by decide +kernel
theorem dX0_led_0 : decode cX0_led 0 = .ok (.aload_n 3, 1) := dk_45 (dk_at dksX0_led_0 0 rfl rfl)
theorem dX0_led_1 : decode cX0_led 1 = .ok (.iconst 0, 1) := dk_3 (dk_at dksX0_led_0 1 rfl rfl)
theorem dX0_led_2 : decode cX0_led 2 = .ok (.aload_n 0, 1) := dk_42 (dk_at dksX0_led_0 2 rfl rfl)
theorem dX0_led_3 : decode cX0_led 3 = .ok (.iload_n 1, 1) := dk_27 (dk_at dksX0_led_0 3 rfl rfl)
theorem dX0_led_4 : decode cX0_led 4 = .ok (.iload_n 2, 1) := dk_28 (dk_at dksX0_led_0 4 rfl rfl)
theorem dX0_led_5 : decode cX0_led 5 = .ok (.invokevirtual 133, 3) := dk_182 0 133 (dk_at dksX0_led_0 5 rfl rfl)
theorem dX0_led_8 : decode cX0_led 8 = .ok (.i2l, 1) := dk_133 (dk_at dksX0_led_0 8 rfl rfl)
theorem dX0_led_9 : decode cX0_led 9 = .ok (.lastore, 1) := dk_80 (dk_at dksX0_led_0 9 rfl rfl)
theorem dX0_led_10 : decode cX0_led 10 = .ok (.goto 7, 3) := dk_167 0 7 (dk_at dksX0_led_0 10 rfl rfl)
theorem dX0_led_13 : decode cX0_led 13 = .ok (.astore 4, 2) := dk_58 4 (dk_at dksX0_led_0 13 rfl rfl)
theorem dX0_led_15 : decode cX0_led 15 = .ok (.iconst 1, 1) := dk_4 (dk_at dksX0_led_0 15 rfl rfl)
theorem dX0_led_16 : decode cX0_led 16 = .ok (.ireturn, 1) := dk_172 (dk_at dksX0_led_0 16 rfl rfl)
theorem dX0_led_17 : decode cX0_led 17 = .ok (.iconst 0, 1) := dk_3 (dk_at dksX0_led_0 17 rfl rfl)
theorem dX0_led_18 : decode cX0_led 18 = .ok (.ireturn, 1) := dk_172 (dk_at dksX0_led_0 18 rfl rfl)
abbrev cX0_log : ByteArray := method_39_code
def yX0_log : MethodName := ⟨RX0, "log", "(LVisitingHours;II[J)I"⟩
def dkwX0_log_0 : List UInt8 := [45, 3, 42, 27, 28, 182, 0, 136, 133, 80, 167, 0, 7, 58, 4, 4, 172, 3, 172]
abbrev dktX0_log_0 : List UInt8 := dkwX0_log_0 ++ []
theorem dksX0_log_0 : cX0_log.data.toList.drop 0 = dktX0_log_0 := by decide +kernel
theorem dX0_log_0 : decode cX0_log 0 = .ok (.aload_n 3, 1) := dk_45 (dk_at dksX0_log_0 0 rfl rfl)
theorem dX0_log_1 : decode cX0_log 1 = .ok (.iconst 0, 1) := dk_3 (dk_at dksX0_log_0 1 rfl rfl)
theorem dX0_log_2 : decode cX0_log 2 = .ok (.aload_n 0, 1) := dk_42 (dk_at dksX0_log_0 2 rfl rfl)
theorem dX0_log_3 : decode cX0_log 3 = .ok (.iload_n 1, 1) := dk_27 (dk_at dksX0_log_0 3 rfl rfl)
theorem dX0_log_4 : decode cX0_log 4 = .ok (.iload_n 2, 1) := dk_28 (dk_at dksX0_log_0 4 rfl rfl)
theorem dX0_log_5 : decode cX0_log 5 = .ok (.invokevirtual 136, 3) := dk_182 0 136 (dk_at dksX0_log_0 5 rfl rfl)
theorem dX0_log_8 : decode cX0_log 8 = .ok (.i2l, 1) := dk_133 (dk_at dksX0_log_0 8 rfl rfl)
theorem dX0_log_9 : decode cX0_log 9 = .ok (.lastore, 1) := dk_80 (dk_at dksX0_log_0 9 rfl rfl)
theorem dX0_log_10 : decode cX0_log 10 = .ok (.goto 7, 3) := dk_167 0 7 (dk_at dksX0_log_0 10 rfl rfl)
theorem dX0_log_13 : decode cX0_log 13 = .ok (.astore 4, 2) := dk_58 4 (dk_at dksX0_log_0 13 rfl rfl)
theorem dX0_log_15 : decode cX0_log 15 = .ok (.iconst 1, 1) := dk_4 (dk_at dksX0_log_0 15 rfl rfl)
theorem dX0_log_16 : decode cX0_log 16 = .ok (.ireturn, 1) := dk_172 (dk_at dksX0_log_0 16 rfl rfl)
theorem dX0_log_17 : decode cX0_log 17 = .ok (.iconst 0, 1) := dk_3 (dk_at dksX0_log_0 17 rfl rfl)
theorem dX0_log_18 : decode cX0_log 18 = .ok (.ireturn, 1) := dk_172 (dk_at dksX0_log_0 18 rfl rfl)
theorem q143 : (Jvm.Cond.initialized "VisitingHoursLaw") ∈ lw_all := lw_g (lw_at lw_m1 0 rfl) rfl
theorem q187 : (Jvm.Cond.classLink "VisitingHoursLaw" (8 : Nat) "VisitingHours") ∈ lw_all := lw_g (lw_at lw_m1 44 rfl) rfl
theorem q189 : (Jvm.Cond.methodLink "VisitingHoursLaw" (139 : Nat) ({ cls := "VisitingHours", name := "<init>", desc := "()V" } : Jvm.MethodName)) ∈ lw_all := lw_g (lw_at lw_m1 46 rfl) rfl
theorem q482 : (Jvm.Cond.methodLink "VisitingHoursLaw" (143 : Nat) ({ cls := "VisitingHours", name := "feed", desc := "(IIIII)I" } : Jvm.MethodName)) ∈ lw_all := lw_g (lw_at lw_m2 99 rfl) rfl
theorem q490 : (Jvm.Cond.methodLink "VisitingHoursLaw" (148 : Nat) ({ cls := "VisitingHours", name := "end", desc := "(I)Z" } : Jvm.MethodName)) ∈ lw_all := lw_g (lw_at lw_m2 107 rfl) rfl
theorem q498 : (Jvm.Cond.methodLink "VisitingHoursLaw" (165 : Nat) ({ cls := "VisitingHours", name := "fault", desc := "()I" } : Jvm.MethodName)) ∈ lw_all := lw_g (lw_at lw_m2 115 rfl) rfl
theorem q502 : (Jvm.Cond.methodLink "VisitingHoursLaw" (216 : Nat) ({ cls := "VisitingHours", name := "meetings", desc := "(Z)I" } : Jvm.MethodName)) ∈ lw_all := lw_g (lw_at lw_m2 119 rfl) rfl
theorem q631 : (Jvm.Cond.methodLink "VisitingHoursLaw" (220 : Nat) ({ cls := "VisitingHours", name := "twice", desc := "()I" } : Jvm.MethodName)) ∈ lw_all := lw_g (lw_at lw_m3 8 rfl) rfl
theorem q640 : (Jvm.Cond.methodLink "VisitingHoursLaw" (224 : Nat) ({ cls := "VisitingHours", name := "taboo", desc := "()I" } : Jvm.MethodName)) ∈ lw_all := lw_g (lw_at lw_m3 17 rfl) rfl
theorem q644 : (Jvm.Cond.methodLink "VisitingHoursLaw" (234 : Nat) ({ cls := "VisitingHours", name := "ways", desc := "()I" } : Jvm.MethodName)) ∈ lw_all := lw_g (lw_at lw_m3 21 rfl) rfl
theorem q708 : (Jvm.Cond.methodLink "VisitingHoursLaw" (257 : Nat) ({ cls := "VisitingHours", name := "dry", desc := "()I" } : Jvm.MethodName)) ∈ lw_all := lw_g (lw_at lw_m3 85 rfl) rfl
theorem q726 : (Jvm.Cond.methodLink "VisitingHoursLaw" (279 : Nat) ({ cls := "VisitingHours", name := "dearest", desc := "()I" } : Jvm.MethodName)) ∈ lw_all := lw_g (lw_at lw_m3 103 rfl) rfl
theorem q734 : (Jvm.Cond.methodLink "VisitingHoursLaw" (283 : Nat) ({ cls := "VisitingHours", name := "forlorn", desc := "()I" } : Jvm.MethodName)) ∈ lw_all := lw_g (lw_at lw_m3 111 rfl) rfl
theorem q742 : (Jvm.Cond.methodLink "VisitingHoursLaw" (287 : Nat) ({ cls := "VisitingHours", name := "alike", desc := "()I" } : Jvm.MethodName)) ∈ lw_all := lw_g (lw_at lw_m3 119 rfl) rfl
theorem q750 : (Jvm.Cond.methodLink "VisitingHoursLaw" (313 : Nat) ({ cls := "VisitingHours", name := "seed", desc := "(I)I" } : Jvm.MethodName)) ∈ lw_all := lw_g (lw_at lw_m3 127 rfl) rfl
theorem q754 : (Jvm.Cond.methodLink "VisitingHoursLaw" (317 : Nat) ({ cls := "VisitingHours", name := "undo", desc := "()Z" } : Jvm.MethodName)) ∈ lw_all := lw_g (lw_at lw_m3 131 rfl) rfl
theorem q780 : (Jvm.Cond.methodLink "VisitingHoursLaw" (322 : Nat) ({ cls := "VisitingHours", name := "image", desc := "()V" } : Jvm.MethodName)) ∈ lw_all := lw_g (lw_at lw_m3 157 rfl) rfl
theorem q784 : (Jvm.Cond.methodLink "VisitingHoursLaw" (326 : Nat) ({ cls := "VisitingHours", name := "back", desc := "()Z" } : Jvm.MethodName)) ∈ lw_all := lw_g (lw_at lw_m3 161 rfl) rfl
theorem q792 : (Jvm.Cond.methodLink "VisitingHoursLaw" (330 : Nat) ({ cls := "VisitingHours", name := "count", desc := "(I)I" } : Jvm.MethodName)) ∈ lw_all := lw_g (lw_at lw_m3 169 rfl) rfl
theorem q804 : (Jvm.Cond.methodLink "VisitingHoursLaw" (153 : Nat) ({ cls := "VisitingHoursLaw", name := "ground", desc := "(LVisitingHours;[J)I" } : Jvm.MethodName)) ∈ lw_all := lw_g (lw_at lw_m3 181 rfl) rfl
theorem q805 : (Jvm.Cond.static ({ cls := "VisitingHoursLaw", name := "ground", desc := "(LVisitingHours;[J)I" } : Jvm.MethodName)) ∈ lw_all := lw_g (lw_at lw_m3 182 rfl) rfl
theorem q806 : (Jvm.Cond.codeWith ({ cls := "VisitingHoursLaw", name := "ground", desc := "(LVisitingHours;[J)I" } : Jvm.MethodName) method_3_code (3 : Nat) (Option.some Jvm.ClassFile.FieldType.int) [((0 : Nat), (8 : Nat), (11 : Nat), (13 : Nat)), ((0 : Nat), (8 : Nat), (14 : Nat), (15 : Nat))]) ∈ lw_all := lw_g (lw_at lw_m3 183 rfl) rfl
theorem q807 : (Jvm.Cond.classLink "VisitingHoursLaw" (13 : Nat) "java/lang/IllegalArgumentException") ∈ lw_all := lw_g (lw_at lw_m3 184 rfl) rfl
theorem q808 : (Jvm.Cond.classLink "VisitingHoursLaw" (15 : Nat) "java/lang/UnsupportedOperationException") ∈ lw_all := lw_g (lw_at lw_m3 185 rfl) rfl
theorem q809 : (Jvm.Cond.methodLink "VisitingHoursLaw" (7 : Nat) ({ cls := "VisitingHours", name := "ground", desc := "()I" } : Jvm.MethodName)) ∈ lw_all := lw_g (lw_at lw_m3 186 rfl) rfl
theorem q1385 : (Jvm.Cond.methodLink "VisitingHoursLaw" (162 : Nat) ({ cls := "VisitingHoursLaw", name := "law", desc := "(LVisitingHours;[J)I" } : Jvm.MethodName)) ∈ lw_all := lw_g (lw_at lw_m6 42 rfl) rfl
theorem q1386 : (Jvm.Cond.static ({ cls := "VisitingHoursLaw", name := "law", desc := "(LVisitingHours;[J)I" } : Jvm.MethodName)) ∈ lw_all := lw_g (lw_at lw_m6 43 rfl) rfl
theorem q1387 : (Jvm.Cond.codeWith ({ cls := "VisitingHoursLaw", name := "law", desc := "(LVisitingHours;[J)I" } : Jvm.MethodName) method_4_code (3 : Nat) (Option.some Jvm.ClassFile.FieldType.int) [((0 : Nat), (8 : Nat), (11 : Nat), (13 : Nat))]) ∈ lw_all := lw_g (lw_at lw_m6 44 rfl) rfl
theorem q1388 : (Jvm.Cond.methodLink "VisitingHoursLaw" (17 : Nat) ({ cls := "VisitingHours", name := "law", desc := "()I" } : Jvm.MethodName)) ∈ lw_all := lw_g (lw_at lw_m6 45 rfl) rfl
theorem q1634 : (Jvm.Cond.methodLink "VisitingHoursLaw" (169 : Nat) ({ cls := "VisitingHoursLaw", name := "host", desc := "(LVisitingHours;II[J)I" } : Jvm.MethodName)) ∈ lw_all := lw_g (lw_at lw_m7 51 rfl) rfl
theorem q1635 : (Jvm.Cond.static ({ cls := "VisitingHoursLaw", name := "host", desc := "(LVisitingHours;II[J)I" } : Jvm.MethodName)) ∈ lw_all := lw_g (lw_at lw_m7 52 rfl) rfl
theorem q1636 : (Jvm.Cond.codeWith ({ cls := "VisitingHoursLaw", name := "host", desc := "(LVisitingHours;II[J)I" } : Jvm.MethodName) method_5_code (5 : Nat) (Option.some Jvm.ClassFile.FieldType.int) [((0 : Nat), (10 : Nat), (13 : Nat), (24 : Nat)), ((0 : Nat), (10 : Nat), (17 : Nat), (26 : Nat))]) ∈ lw_all := lw_g (lw_at lw_m7 53 rfl) rfl
theorem q1637 : (Jvm.Cond.classLink "VisitingHoursLaw" (24 : Nat) "java/lang/IndexOutOfBoundsException") ∈ lw_all := lw_g (lw_at lw_m7 54 rfl) rfl
theorem q1656 : (Jvm.Cond.classLink "VisitingHoursLaw" (26 : Nat) "java/util/NoSuchElementException") ∈ lw_all := lw_g (lw_at lw_m7 73 rfl) rfl
theorem q1657 : (Jvm.Cond.methodLink "VisitingHoursLaw" (20 : Nat) ({ cls := "VisitingHours", name := "host", desc := "(II)I" } : Jvm.MethodName)) ∈ lw_all := lw_g (lw_at lw_m7 74 rfl) rfl
theorem q1709 : (Jvm.Cond.methodLink "VisitingHoursLaw" (173 : Nat) ({ cls := "VisitingHoursLaw", name := "guest", desc := "(LVisitingHours;II[J)I" } : Jvm.MethodName)) ∈ lw_all := lw_g (lw_at lw_m7 126 rfl) rfl
theorem q1710 : (Jvm.Cond.static ({ cls := "VisitingHoursLaw", name := "guest", desc := "(LVisitingHours;II[J)I" } : Jvm.MethodName)) ∈ lw_all := lw_g (lw_at lw_m7 127 rfl) rfl
theorem q1711 : (Jvm.Cond.codeWith ({ cls := "VisitingHoursLaw", name := "guest", desc := "(LVisitingHours;II[J)I" } : Jvm.MethodName) method_6_code (5 : Nat) (Option.some Jvm.ClassFile.FieldType.int) [((0 : Nat), (10 : Nat), (13 : Nat), (24 : Nat)), ((0 : Nat), (10 : Nat), (17 : Nat), (26 : Nat))]) ∈ lw_all := lw_g (lw_at lw_m7 128 rfl) rfl
theorem q1712 : (Jvm.Cond.methodLink "VisitingHoursLaw" (28 : Nat) ({ cls := "VisitingHours", name := "guest", desc := "(II)I" } : Jvm.MethodName)) ∈ lw_all := lw_g (lw_at lw_m7 129 rfl) rfl
theorem q1724 : (Jvm.Cond.methodLink "VisitingHoursLaw" (176 : Nat) ({ cls := "VisitingHoursLaw", name := "rank", desc := "(LVisitingHours;IIZ[J)I" } : Jvm.MethodName)) ∈ lw_all := lw_g (lw_at lw_m7 141 rfl) rfl
theorem q1725 : (Jvm.Cond.static ({ cls := "VisitingHoursLaw", name := "rank", desc := "(LVisitingHours;IIZ[J)I" } : Jvm.MethodName)) ∈ lw_all := lw_g (lw_at lw_m7 142 rfl) rfl
theorem q1726 : (Jvm.Cond.codeWith ({ cls := "VisitingHoursLaw", name := "rank", desc := "(LVisitingHours;IIZ[J)I" } : Jvm.MethodName) method_7_code (6 : Nat) (Option.some Jvm.ClassFile.FieldType.int) [((0 : Nat), (12 : Nat), (15 : Nat), (24 : Nat))]) ∈ lw_all := lw_g (lw_at lw_m7 143 rfl) rfl
theorem q1727 : (Jvm.Cond.methodLink "VisitingHoursLaw" (31 : Nat) ({ cls := "VisitingHours", name := "rank", desc := "(IIZ)I" } : Jvm.MethodName)) ∈ lw_all := lw_g (lw_at lw_m7 144 rfl) rfl
theorem q1731 : (Jvm.Cond.methodLink "VisitingHoursLaw" (180 : Nat) ({ cls := "VisitingHoursLaw", name := "booked", desc := "(LVisitingHours;II[J)I" } : Jvm.MethodName)) ∈ lw_all := lw_g (lw_at lw_m7 148 rfl) rfl
theorem q1732 : (Jvm.Cond.static ({ cls := "VisitingHoursLaw", name := "booked", desc := "(LVisitingHours;II[J)I" } : Jvm.MethodName)) ∈ lw_all := lw_g (lw_at lw_m7 149 rfl) rfl
theorem q1733 : (Jvm.Cond.codeWith ({ cls := "VisitingHoursLaw", name := "booked", desc := "(LVisitingHours;II[J)I" } : Jvm.MethodName) method_8_code (5 : Nat) (Option.some Jvm.ClassFile.FieldType.int) [((0 : Nat), (10 : Nat), (13 : Nat), (24 : Nat))]) ∈ lw_all := lw_g (lw_at lw_m7 150 rfl) rfl
theorem q1734 : (Jvm.Cond.methodLink "VisitingHoursLaw" (35 : Nat) ({ cls := "VisitingHours", name := "booked", desc := "(II)I" } : Jvm.MethodName)) ∈ lw_all := lw_g (lw_at lw_m7 151 rfl) rfl
theorem q1741 : (Jvm.Cond.methodLink "VisitingHoursLaw" (183 : Nat) ({ cls := "VisitingHoursLaw", name := "can", desc := "(LVisitingHours;III[J)I" } : Jvm.MethodName)) ∈ lw_all := lw_g (lw_at lw_m7 158 rfl) rfl
theorem q1742 : (Jvm.Cond.static ({ cls := "VisitingHoursLaw", name := "can", desc := "(LVisitingHours;III[J)I" } : Jvm.MethodName)) ∈ lw_all := lw_g (lw_at lw_m7 159 rfl) rfl
theorem q1743 : (Jvm.Cond.codeWith ({ cls := "VisitingHoursLaw", name := "can", desc := "(LVisitingHours;III[J)I" } : Jvm.MethodName) method_9_code (6 : Nat) (Option.some Jvm.ClassFile.FieldType.int) [((0 : Nat), (19 : Nat), (22 : Nat), (24 : Nat))]) ∈ lw_all := lw_g (lw_at lw_m7 160 rfl) rfl
theorem q1744 : (Jvm.Cond.methodLink "VisitingHoursLaw" (38 : Nat) ({ cls := "VisitingHours", name := "can", desc := "(III)Z" } : Jvm.MethodName)) ∈ lw_all := lw_g (lw_at lw_m7 161 rfl) rfl
theorem q1752 : (Jvm.Cond.methodLink "VisitingHoursLaw" (187 : Nat) ({ cls := "VisitingHoursLaw", name := "lets", desc := "(LVisitingHours;III[J)I" } : Jvm.MethodName)) ∈ lw_all := lw_g (lw_at lw_m7 169 rfl) rfl
theorem q1753 : (Jvm.Cond.static ({ cls := "VisitingHoursLaw", name := "lets", desc := "(LVisitingHours;III[J)I" } : Jvm.MethodName)) ∈ lw_all := lw_g (lw_at lw_m7 170 rfl) rfl
theorem q1754 : (Jvm.Cond.codeWith ({ cls := "VisitingHoursLaw", name := "lets", desc := "(LVisitingHours;III[J)I" } : Jvm.MethodName) method_10_code (6 : Nat) (Option.some Jvm.ClassFile.FieldType.int) [((0 : Nat), (19 : Nat), (22 : Nat), (24 : Nat))]) ∈ lw_all := lw_g (lw_at lw_m7 171 rfl) rfl
theorem q1755 : (Jvm.Cond.methodLink "VisitingHoursLaw" (42 : Nat) ({ cls := "VisitingHours", name := "lets", desc := "(III)Z" } : Jvm.MethodName)) ∈ lw_all := lw_g (lw_at lw_m7 172 rfl) rfl
theorem q1759 : (Jvm.Cond.methodLink "VisitingHoursLaw" (190 : Nat) ({ cls := "VisitingHoursLaw", name := "joy", desc := "(LVisitingHours;III[J)I" } : Jvm.MethodName)) ∈ lw_all := lw_g (lw_at lw_m7 176 rfl) rfl
theorem q1760 : (Jvm.Cond.static ({ cls := "VisitingHoursLaw", name := "joy", desc := "(LVisitingHours;III[J)I" } : Jvm.MethodName)) ∈ lw_all := lw_g (lw_at lw_m7 177 rfl) rfl
theorem q1761 : (Jvm.Cond.codeWith ({ cls := "VisitingHoursLaw", name := "joy", desc := "(LVisitingHours;III[J)I" } : Jvm.MethodName) method_11_code (6 : Nat) (Option.some Jvm.ClassFile.FieldType.int) [((0 : Nat), (12 : Nat), (15 : Nat), (24 : Nat))]) ∈ lw_all := lw_g (lw_at lw_m7 178 rfl) rfl
theorem q1762 : (Jvm.Cond.methodLink "VisitingHoursLaw" (45 : Nat) ({ cls := "VisitingHours", name := "joy", desc := "(III)I" } : Jvm.MethodName)) ∈ lw_all := lw_g (lw_at lw_m7 179 rfl) rfl
theorem q1766 : (Jvm.Cond.methodLink "VisitingHoursLaw" (193 : Nat) ({ cls := "VisitingHoursLaw", name := "book", desc := "(LVisitingHours;III[J)I" } : Jvm.MethodName)) ∈ lw_all := lw_g (lw_at lw_m7 183 rfl) rfl
theorem q1767 : (Jvm.Cond.static ({ cls := "VisitingHoursLaw", name := "book", desc := "(LVisitingHours;III[J)I" } : Jvm.MethodName)) ∈ lw_all := lw_g (lw_at lw_m7 184 rfl) rfl
theorem q1768 : (Jvm.Cond.codeWith ({ cls := "VisitingHoursLaw", name := "book", desc := "(LVisitingHours;III[J)I" } : Jvm.MethodName) method_12_code (6 : Nat) (Option.some Jvm.ClassFile.FieldType.int) [((0 : Nat), (12 : Nat), (15 : Nat), (24 : Nat)), ((0 : Nat), (12 : Nat), (19 : Nat), (52 : Nat))]) ∈ lw_all := lw_g (lw_at lw_m7 185 rfl) rfl
theorem q1769 : (Jvm.Cond.classLink "VisitingHoursLaw" (52 : Nat) "java/lang/IllegalStateException") ∈ lw_all := lw_g (lw_at lw_m7 186 rfl) rfl
theorem q1770 : (Jvm.Cond.methodLink "VisitingHoursLaw" (49 : Nat) ({ cls := "VisitingHours", name := "book", desc := "(III)I" } : Jvm.MethodName)) ∈ lw_all := lw_g (lw_at lw_m7 187 rfl) rfl
theorem q1796 : (Jvm.Cond.methodLink "VisitingHoursLaw" (196 : Nat) ({ cls := "VisitingHoursLaw", name := "strike", desc := "(LVisitingHours;II[J)I" } : Jvm.MethodName)) ∈ lw_all := lw_g (lw_at lw_m7 213 rfl) rfl
theorem q1797 : (Jvm.Cond.static ({ cls := "VisitingHoursLaw", name := "strike", desc := "(LVisitingHours;II[J)I" } : Jvm.MethodName)) ∈ lw_all := lw_g (lw_at lw_m7 214 rfl) rfl
theorem q1798 : (Jvm.Cond.codeWith ({ cls := "VisitingHoursLaw", name := "strike", desc := "(LVisitingHours;II[J)I" } : Jvm.MethodName) method_13_code (5 : Nat) (Option.some Jvm.ClassFile.FieldType.int) [((0 : Nat), (10 : Nat), (13 : Nat), (24 : Nat)), ((0 : Nat), (10 : Nat), (17 : Nat), (52 : Nat))]) ∈ lw_all := lw_g (lw_at lw_m7 215 rfl) rfl
theorem q1799 : (Jvm.Cond.methodLink "VisitingHoursLaw" (54 : Nat) ({ cls := "VisitingHours", name := "strike", desc := "(II)I" } : Jvm.MethodName)) ∈ lw_all := lw_g (lw_at lw_m7 216 rfl) rfl
theorem q1803 : (Jvm.Cond.methodLink "VisitingHoursLaw" (199 : Nat) ({ cls := "VisitingHoursLaw", name := "change", desc := "(LVisitingHours;III[J)I" } : Jvm.MethodName)) ∈ lw_all := lw_g (lw_at lw_m7 220 rfl) rfl
theorem q1804 : (Jvm.Cond.static ({ cls := "VisitingHoursLaw", name := "change", desc := "(LVisitingHours;III[J)I" } : Jvm.MethodName)) ∈ lw_all := lw_g (lw_at lw_m7 221 rfl) rfl
theorem q1805 : (Jvm.Cond.codeWith ({ cls := "VisitingHoursLaw", name := "change", desc := "(LVisitingHours;III[J)I" } : Jvm.MethodName) method_14_code (6 : Nat) (Option.some Jvm.ClassFile.FieldType.int) [((0 : Nat), (12 : Nat), (15 : Nat), (24 : Nat)), ((0 : Nat), (12 : Nat), (19 : Nat), (13 : Nat))]) ∈ lw_all := lw_g (lw_at lw_m7 222 rfl) rfl
theorem q1806 : (Jvm.Cond.methodLink "VisitingHoursLaw" (57 : Nat) ({ cls := "VisitingHours", name := "change", desc := "(III)I" } : Jvm.MethodName)) ∈ lw_all := lw_g (lw_at lw_m7 223 rfl) rfl
theorem q1817 : (Jvm.Cond.methodLink "VisitingHoursLaw" (202 : Nat) ({ cls := "VisitingHoursLaw", name := "mark", desc := "(LVisitingHours;II[J)I" } : Jvm.MethodName)) ∈ lw_all := lw_g (lw_at lw_m7 234 rfl) rfl
theorem q1818 : (Jvm.Cond.static ({ cls := "VisitingHoursLaw", name := "mark", desc := "(LVisitingHours;II[J)I" } : Jvm.MethodName)) ∈ lw_all := lw_g (lw_at lw_m7 235 rfl) rfl
theorem q1819 : (Jvm.Cond.codeWith ({ cls := "VisitingHoursLaw", name := "mark", desc := "(LVisitingHours;II[J)I" } : Jvm.MethodName) method_15_code (5 : Nat) (Option.some Jvm.ClassFile.FieldType.int) [((0 : Nat), (10 : Nat), (13 : Nat), (24 : Nat)), ((0 : Nat), (10 : Nat), (17 : Nat), (13 : Nat))]) ∈ lw_all := lw_g (lw_at lw_m7 236 rfl) rfl
theorem q1820 : (Jvm.Cond.methodLink "VisitingHoursLaw" (60 : Nat) ({ cls := "VisitingHours", name := "mark", desc := "(II)I" } : Jvm.MethodName)) ∈ lw_all := lw_g (lw_at lw_m7 237 rfl) rfl
theorem q1824 : (Jvm.Cond.methodLink "VisitingHoursLaw" (205 : Nat) ({ cls := "VisitingHoursLaw", name := "gate", desc := "(LVisitingHours;II[J)I" } : Jvm.MethodName)) ∈ lw_all := lw_g (lw_at lw_m8 1 rfl) rfl
theorem q1825 : (Jvm.Cond.static ({ cls := "VisitingHoursLaw", name := "gate", desc := "(LVisitingHours;II[J)I" } : Jvm.MethodName)) ∈ lw_all := lw_g (lw_at lw_m8 2 rfl) rfl
theorem q1826 : (Jvm.Cond.codeWith ({ cls := "VisitingHoursLaw", name := "gate", desc := "(LVisitingHours;II[J)I" } : Jvm.MethodName) method_16_code (5 : Nat) (Option.some Jvm.ClassFile.FieldType.int) [((0 : Nat), (10 : Nat), (13 : Nat), (13 : Nat))]) ∈ lw_all := lw_g (lw_at lw_m8 3 rfl) rfl
theorem q1827 : (Jvm.Cond.methodLink "VisitingHoursLaw" (63 : Nat) ({ cls := "VisitingHours", name := "gate", desc := "(II)I" } : Jvm.MethodName)) ∈ lw_all := lw_g (lw_at lw_m8 4 rfl) rfl
theorem q1831 : (Jvm.Cond.methodLink "VisitingHoursLaw" (208 : Nat) ({ cls := "VisitingHoursLaw", name := "value", desc := "(LVisitingHours;IIZI[J)I" } : Jvm.MethodName)) ∈ lw_all := lw_g (lw_at lw_m8 8 rfl) rfl
theorem q1832 : (Jvm.Cond.static ({ cls := "VisitingHoursLaw", name := "value", desc := "(LVisitingHours;IIZI[J)I" } : Jvm.MethodName)) ∈ lw_all := lw_g (lw_at lw_m8 9 rfl) rfl
theorem q1833 : (Jvm.Cond.codeWith ({ cls := "VisitingHoursLaw", name := "value", desc := "(LVisitingHours;IIZI[J)I" } : Jvm.MethodName) method_17_code (7 : Nat) (Option.some Jvm.ClassFile.FieldType.int) [((0 : Nat), (14 : Nat), (17 : Nat), (24 : Nat)), ((0 : Nat), (14 : Nat), (21 : Nat), (13 : Nat))]) ∈ lw_all := lw_g (lw_at lw_m8 10 rfl) rfl
theorem q1834 : (Jvm.Cond.methodLink "VisitingHoursLaw" (66 : Nat) ({ cls := "VisitingHours", name := "value", desc := "(IIZI)I" } : Jvm.MethodName)) ∈ lw_all := lw_g (lw_at lw_m8 11 rfl) rfl
theorem q1838 : (Jvm.Cond.methodLink "VisitingHoursLaw" (212 : Nat) ({ cls := "VisitingHoursLaw", name := "weeks", desc := "(LVisitingHours;I[J)I" } : Jvm.MethodName)) ∈ lw_all := lw_g (lw_at lw_m8 15 rfl) rfl
theorem q1839 : (Jvm.Cond.static ({ cls := "VisitingHoursLaw", name := "weeks", desc := "(LVisitingHours;I[J)I" } : Jvm.MethodName)) ∈ lw_all := lw_g (lw_at lw_m8 16 rfl) rfl
theorem q1840 : (Jvm.Cond.codeWith ({ cls := "VisitingHoursLaw", name := "weeks", desc := "(LVisitingHours;I[J)I" } : Jvm.MethodName) method_18_code (4 : Nat) (Option.some Jvm.ClassFile.FieldType.int) [((0 : Nat), (9 : Nat), (12 : Nat), (13 : Nat))]) ∈ lw_all := lw_g (lw_at lw_m8 17 rfl) rfl
theorem q1841 : (Jvm.Cond.methodLink "VisitingHoursLaw" (70 : Nat) ({ cls := "VisitingHours", name := "weeks", desc := "(I)I" } : Jvm.MethodName)) ∈ lw_all := lw_g (lw_at lw_m8 18 rfl) rfl
theorem q1874 : (Jvm.Cond.methodLink "VisitingHoursLaw" (228 : Nat) ({ cls := "VisitingHoursLaw", name := "hostBest", desc := "(LVisitingHours;I[J)I" } : Jvm.MethodName)) ∈ lw_all := lw_g (lw_at lw_m8 51 rfl) rfl
theorem q1875 : (Jvm.Cond.static ({ cls := "VisitingHoursLaw", name := "hostBest", desc := "(LVisitingHours;I[J)I" } : Jvm.MethodName)) ∈ lw_all := lw_g (lw_at lw_m8 52 rfl) rfl
theorem q1876 : (Jvm.Cond.codeWith ({ cls := "VisitingHoursLaw", name := "hostBest", desc := "(LVisitingHours;I[J)I" } : Jvm.MethodName) method_19_code (4 : Nat) (Option.some Jvm.ClassFile.FieldType.int) [((0 : Nat), (9 : Nat), (12 : Nat), (24 : Nat))]) ∈ lw_all := lw_g (lw_at lw_m8 53 rfl) rfl
theorem q1877 : (Jvm.Cond.methodLink "VisitingHoursLaw" (74 : Nat) ({ cls := "VisitingHours", name := "hostBest", desc := "(I)I" } : Jvm.MethodName)) ∈ lw_all := lw_g (lw_at lw_m8 54 rfl) rfl
theorem q1882 : (Jvm.Cond.methodLink "VisitingHoursLaw" (231 : Nat) ({ cls := "VisitingHoursLaw", name := "guestBest", desc := "(LVisitingHours;I[J)I" } : Jvm.MethodName)) ∈ lw_all := lw_g (lw_at lw_m8 59 rfl) rfl
theorem q1883 : (Jvm.Cond.static ({ cls := "VisitingHoursLaw", name := "guestBest", desc := "(LVisitingHours;I[J)I" } : Jvm.MethodName)) ∈ lw_all := lw_g (lw_at lw_m8 60 rfl) rfl
theorem q1884 : (Jvm.Cond.codeWith ({ cls := "VisitingHoursLaw", name := "guestBest", desc := "(LVisitingHours;I[J)I" } : Jvm.MethodName) method_20_code (4 : Nat) (Option.some Jvm.ClassFile.FieldType.int) [((0 : Nat), (9 : Nat), (12 : Nat), (24 : Nat))]) ∈ lw_all := lw_g (lw_at lw_m8 61 rfl) rfl
theorem q1885 : (Jvm.Cond.methodLink "VisitingHoursLaw" (77 : Nat) ({ cls := "VisitingHours", name := "guestBest", desc := "(I)I" } : Jvm.MethodName)) ∈ lw_all := lw_g (lw_at lw_m8 62 rfl) rfl
theorem q1890 : (Jvm.Cond.methodLink "VisitingHoursLaw" (238 : Nat) ({ cls := "VisitingHoursLaw", name := "rather", desc := "(LVisitingHours;[J)I" } : Jvm.MethodName)) ∈ lw_all := lw_g (lw_at lw_m8 67 rfl) rfl
theorem q1891 : (Jvm.Cond.static ({ cls := "VisitingHoursLaw", name := "rather", desc := "(LVisitingHours;[J)I" } : Jvm.MethodName)) ∈ lw_all := lw_g (lw_at lw_m8 68 rfl) rfl
theorem q1892 : (Jvm.Cond.codeWith ({ cls := "VisitingHoursLaw", name := "rather", desc := "(LVisitingHours;[J)I" } : Jvm.MethodName) method_21_code (3 : Nat) (Option.some Jvm.ClassFile.FieldType.int) [((0 : Nat), (8 : Nat), (11 : Nat), (13 : Nat))]) ∈ lw_all := lw_g (lw_at lw_m8 69 rfl) rfl
theorem q1893 : (Jvm.Cond.methodLink "VisitingHoursLaw" (80 : Nat) ({ cls := "VisitingHours", name := "rather", desc := "()I" } : Jvm.MethodName)) ∈ lw_all := lw_g (lw_at lw_m8 70 rfl) rfl
theorem q1904 : (Jvm.Cond.methodLink "VisitingHoursLaw" (241 : Nat) ({ cls := "VisitingHoursLaw", name := "row", desc := "(LVisitingHours;IIZ[J)I" } : Jvm.MethodName)) ∈ lw_all := lw_g (lw_at lw_m8 81 rfl) rfl
theorem q1905 : (Jvm.Cond.static ({ cls := "VisitingHoursLaw", name := "row", desc := "(LVisitingHours;IIZ[J)I" } : Jvm.MethodName)) ∈ lw_all := lw_g (lw_at lw_m8 82 rfl) rfl
theorem q1906 : (Jvm.Cond.codeWith ({ cls := "VisitingHoursLaw", name := "row", desc := "(LVisitingHours;IIZ[J)I" } : Jvm.MethodName) method_22_code (6 : Nat) (Option.some Jvm.ClassFile.FieldType.int) [((0 : Nat), (12 : Nat), (15 : Nat), (24 : Nat))]) ∈ lw_all := lw_g (lw_at lw_m8 83 rfl) rfl
theorem q1907 : (Jvm.Cond.methodLink "VisitingHoursLaw" (83 : Nat) ({ cls := "VisitingHours", name := "row", desc := "(IIZ)I" } : Jvm.MethodName)) ∈ lw_all := lw_g (lw_at lw_m8 84 rfl) rfl
theorem q1924 : (Jvm.Cond.methodLink "VisitingHoursLaw" (244 : Nat) ({ cls := "VisitingHoursLaw", name := "afternoon", desc := "(LVisitingHours;II[J)I" } : Jvm.MethodName)) ∈ lw_all := lw_g (lw_at lw_m8 101 rfl) rfl
theorem q1925 : (Jvm.Cond.static ({ cls := "VisitingHoursLaw", name := "afternoon", desc := "(LVisitingHours;II[J)I" } : Jvm.MethodName)) ∈ lw_all := lw_g (lw_at lw_m8 102 rfl) rfl
theorem q1926 : (Jvm.Cond.codeWith ({ cls := "VisitingHoursLaw", name := "afternoon", desc := "(LVisitingHours;II[J)I" } : Jvm.MethodName) method_23_code (5 : Nat) (Option.some Jvm.ClassFile.FieldType.int) [((0 : Nat), (10 : Nat), (13 : Nat), (24 : Nat))]) ∈ lw_all := lw_g (lw_at lw_m8 103 rfl) rfl
theorem q1927 : (Jvm.Cond.methodLink "VisitingHoursLaw" (86 : Nat) ({ cls := "VisitingHours", name := "afternoon", desc := "(II)I" } : Jvm.MethodName)) ∈ lw_all := lw_g (lw_at lw_m8 104 rfl) rfl
theorem q1943 : (Jvm.Cond.methodLink "VisitingHoursLaw" (247 : Nat) ({ cls := "VisitingHoursLaw", name := "rules", desc := "(LVisitingHours;Z[J)I" } : Jvm.MethodName)) ∈ lw_all := lw_g (lw_at lw_m8 120 rfl) rfl
theorem q1944 : (Jvm.Cond.static ({ cls := "VisitingHoursLaw", name := "rules", desc := "(LVisitingHours;Z[J)I" } : Jvm.MethodName)) ∈ lw_all := lw_g (lw_at lw_m8 121 rfl) rfl
theorem q1945 : (Jvm.Cond.codeWith ({ cls := "VisitingHoursLaw", name := "rules", desc := "(LVisitingHours;Z[J)I" } : Jvm.MethodName) method_24_code (4 : Nat) (Option.some Jvm.ClassFile.FieldType.int) [((0 : Nat), (9 : Nat), (12 : Nat), (13 : Nat))]) ∈ lw_all := lw_g (lw_at lw_m8 122 rfl) rfl
theorem q1946 : (Jvm.Cond.methodLink "VisitingHoursLaw" (89 : Nat) ({ cls := "VisitingHours", name := "rules", desc := "(Z)I" } : Jvm.MethodName)) ∈ lw_all := lw_g (lw_at lw_m8 123 rfl) rfl
theorem q1966 : (Jvm.Cond.methodLink "VisitingHoursLaw" (251 : Nat) ({ cls := "VisitingHoursLaw", name := "send", desc := "(LVisitingHours;[J)I" } : Jvm.MethodName)) ∈ lw_all := lw_g (lw_at lw_m8 143 rfl) rfl
theorem q1967 : (Jvm.Cond.static ({ cls := "VisitingHoursLaw", name := "send", desc := "(LVisitingHours;[J)I" } : Jvm.MethodName)) ∈ lw_all := lw_g (lw_at lw_m8 144 rfl) rfl
theorem q1968 : (Jvm.Cond.codeWith ({ cls := "VisitingHoursLaw", name := "send", desc := "(LVisitingHours;[J)I" } : Jvm.MethodName) method_25_code (3 : Nat) (Option.some Jvm.ClassFile.FieldType.int) [((0 : Nat), (8 : Nat), (11 : Nat), (13 : Nat))]) ∈ lw_all := lw_g (lw_at lw_m8 145 rfl) rfl
theorem q1969 : (Jvm.Cond.methodLink "VisitingHoursLaw" (93 : Nat) ({ cls := "VisitingHours", name := "send", desc := "()I" } : Jvm.MethodName)) ∈ lw_all := lw_g (lw_at lw_m8 146 rfl) rfl
theorem q1973 : (Jvm.Cond.methodLink "VisitingHoursLaw" (254 : Nat) ({ cls := "VisitingHoursLaw", name := "hand", desc := "(LVisitingHours;Z[J)I" } : Jvm.MethodName)) ∈ lw_all := lw_g (lw_at lw_m8 150 rfl) rfl
theorem q1974 : (Jvm.Cond.static ({ cls := "VisitingHoursLaw", name := "hand", desc := "(LVisitingHours;Z[J)I" } : Jvm.MethodName)) ∈ lw_all := lw_g (lw_at lw_m8 151 rfl) rfl
theorem q1975 : (Jvm.Cond.codeWith ({ cls := "VisitingHoursLaw", name := "hand", desc := "(LVisitingHours;Z[J)I" } : Jvm.MethodName) method_26_code (4 : Nat) (Option.some Jvm.ClassFile.FieldType.int) [((0 : Nat), (9 : Nat), (12 : Nat), (13 : Nat))]) ∈ lw_all := lw_g (lw_at lw_m8 152 rfl) rfl
theorem q1976 : (Jvm.Cond.methodLink "VisitingHoursLaw" (96 : Nat) ({ cls := "VisitingHours", name := "hand", desc := "(Z)I" } : Jvm.MethodName)) ∈ lw_all := lw_g (lw_at lw_m8 153 rfl) rfl
theorem q1984 : (Jvm.Cond.methodLink "VisitingHoursLaw" (261 : Nat) ({ cls := "VisitingHoursLaw", name := "saved", desc := "(LVisitingHours;II[J)I" } : Jvm.MethodName)) ∈ lw_all := lw_g (lw_at lw_m8 161 rfl) rfl
theorem q1985 : (Jvm.Cond.static ({ cls := "VisitingHoursLaw", name := "saved", desc := "(LVisitingHours;II[J)I" } : Jvm.MethodName)) ∈ lw_all := lw_g (lw_at lw_m8 162 rfl) rfl
theorem q1986 : (Jvm.Cond.codeWith ({ cls := "VisitingHoursLaw", name := "saved", desc := "(LVisitingHours;II[J)I" } : Jvm.MethodName) method_27_code (5 : Nat) (Option.some Jvm.ClassFile.FieldType.int) [((0 : Nat), (10 : Nat), (13 : Nat), (24 : Nat))]) ∈ lw_all := lw_g (lw_at lw_m8 163 rfl) rfl
theorem q1987 : (Jvm.Cond.methodLink "VisitingHoursLaw" (99 : Nat) ({ cls := "VisitingHours", name := "saved", desc := "(II)I" } : Jvm.MethodName)) ∈ lw_all := lw_g (lw_at lw_m8 164 rfl) rfl
theorem q1995 : (Jvm.Cond.methodLink "VisitingHoursLaw" (264 : Nat) ({ cls := "VisitingHoursLaw", name := "lend", desc := "(LVisitingHours;I[J)I" } : Jvm.MethodName)) ∈ lw_all := lw_g (lw_at lw_m8 172 rfl) rfl
theorem q1996 : (Jvm.Cond.static ({ cls := "VisitingHoursLaw", name := "lend", desc := "(LVisitingHours;I[J)I" } : Jvm.MethodName)) ∈ lw_all := lw_g (lw_at lw_m8 173 rfl) rfl
theorem q1997 : (Jvm.Cond.codeWith ({ cls := "VisitingHoursLaw", name := "lend", desc := "(LVisitingHours;I[J)I" } : Jvm.MethodName) method_28_code (4 : Nat) (Option.some Jvm.ClassFile.FieldType.int) [((0 : Nat), (9 : Nat), (12 : Nat), (24 : Nat))]) ∈ lw_all := lw_g (lw_at lw_m8 174 rfl) rfl
theorem q1998 : (Jvm.Cond.methodLink "VisitingHoursLaw" (102 : Nat) ({ cls := "VisitingHours", name := "lend", desc := "(I)I" } : Jvm.MethodName)) ∈ lw_all := lw_g (lw_at lw_m8 175 rfl) rfl
theorem q2013 : (Jvm.Cond.methodLink "VisitingHoursLaw" (267 : Nat) ({ cls := "VisitingHoursLaw", name := "odds", desc := "(LVisitingHours;II[J)I" } : Jvm.MethodName)) ∈ lw_all := lw_g (lw_at lw_m8 190 rfl) rfl
theorem q2014 : (Jvm.Cond.static ({ cls := "VisitingHoursLaw", name := "odds", desc := "(LVisitingHours;II[J)I" } : Jvm.MethodName)) ∈ lw_all := lw_g (lw_at lw_m8 191 rfl) rfl
theorem q2015 : (Jvm.Cond.codeWith ({ cls := "VisitingHoursLaw", name := "odds", desc := "(LVisitingHours;II[J)I" } : Jvm.MethodName) method_29_code (5 : Nat) (Option.some Jvm.ClassFile.FieldType.int) [((0 : Nat), (10 : Nat), (13 : Nat), (13 : Nat))]) ∈ lw_all := lw_g (lw_at lw_m8 192 rfl) rfl
theorem q2016 : (Jvm.Cond.methodLink "VisitingHoursLaw" (105 : Nat) ({ cls := "VisitingHours", name := "odds", desc := "(II)I" } : Jvm.MethodName)) ∈ lw_all := lw_g (lw_at lw_m8 193 rfl) rfl
theorem q2022 : (Jvm.Cond.methodLink "VisitingHoursLaw" (270 : Nat) ({ cls := "VisitingHoursLaw", name := "waits", desc := "(LVisitingHours;II[J)I" } : Jvm.MethodName)) ∈ lw_all := lw_g (lw_at lw_m8 199 rfl) rfl
theorem q2023 : (Jvm.Cond.static ({ cls := "VisitingHoursLaw", name := "waits", desc := "(LVisitingHours;II[J)I" } : Jvm.MethodName)) ∈ lw_all := lw_g (lw_at lw_m8 200 rfl) rfl
theorem q2024 : (Jvm.Cond.codeWith ({ cls := "VisitingHoursLaw", name := "waits", desc := "(LVisitingHours;II[J)I" } : Jvm.MethodName) method_30_code (5 : Nat) (Option.some Jvm.ClassFile.FieldType.int) [((0 : Nat), (10 : Nat), (13 : Nat), (24 : Nat)), ((0 : Nat), (10 : Nat), (17 : Nat), (13 : Nat))]) ∈ lw_all := lw_g (lw_at lw_m8 201 rfl) rfl
theorem q2025 : (Jvm.Cond.methodLink "VisitingHoursLaw" (108 : Nat) ({ cls := "VisitingHours", name := "waits", desc := "(II)I" } : Jvm.MethodName)) ∈ lw_all := lw_g (lw_at lw_m8 202 rfl) rfl
theorem q2033 : (Jvm.Cond.methodLink "VisitingHoursLaw" (273 : Nat) ({ cls := "VisitingHoursLaw", name := "treaty", desc := "(LVisitingHours;II[J)I" } : Jvm.MethodName)) ∈ lw_all := lw_g (lw_at lw_m8 210 rfl) rfl
theorem q2034 : (Jvm.Cond.static ({ cls := "VisitingHoursLaw", name := "treaty", desc := "(LVisitingHours;II[J)I" } : Jvm.MethodName)) ∈ lw_all := lw_g (lw_at lw_m8 211 rfl) rfl
theorem q2035 : (Jvm.Cond.codeWith ({ cls := "VisitingHoursLaw", name := "treaty", desc := "(LVisitingHours;II[J)I" } : Jvm.MethodName) method_31_code (5 : Nat) (Option.some Jvm.ClassFile.FieldType.int) [((0 : Nat), (10 : Nat), (13 : Nat), (24 : Nat)), ((0 : Nat), (10 : Nat), (17 : Nat), (13 : Nat))]) ∈ lw_all := lw_g (lw_at lw_m8 212 rfl) rfl
theorem q2036 : (Jvm.Cond.methodLink "VisitingHoursLaw" (111 : Nat) ({ cls := "VisitingHours", name := "treaty", desc := "(II)I" } : Jvm.MethodName)) ∈ lw_all := lw_g (lw_at lw_m8 213 rfl) rfl
theorem q2044 : (Jvm.Cond.methodLink "VisitingHoursLaw" (276 : Nat) ({ cls := "VisitingHoursLaw", name := "rests", desc := "(LVisitingHours;II[J)I" } : Jvm.MethodName)) ∈ lw_all := lw_g (lw_at lw_m8 221 rfl) rfl
theorem q2045 : (Jvm.Cond.static ({ cls := "VisitingHoursLaw", name := "rests", desc := "(LVisitingHours;II[J)I" } : Jvm.MethodName)) ∈ lw_all := lw_g (lw_at lw_m8 222 rfl) rfl
theorem q2046 : (Jvm.Cond.codeWith ({ cls := "VisitingHoursLaw", name := "rests", desc := "(LVisitingHours;II[J)I" } : Jvm.MethodName) method_32_code (5 : Nat) (Option.some Jvm.ClassFile.FieldType.int) [((0 : Nat), (10 : Nat), (13 : Nat), (24 : Nat))]) ∈ lw_all := lw_g (lw_at lw_m8 223 rfl) rfl
theorem q2047 : (Jvm.Cond.methodLink "VisitingHoursLaw" (114 : Nat) ({ cls := "VisitingHours", name := "rests", desc := "(II)I" } : Jvm.MethodName)) ∈ lw_all := lw_g (lw_at lw_m8 224 rfl) rfl
theorem q2058 : (Jvm.Cond.methodLink "VisitingHoursLaw" (291 : Nat) ({ cls := "VisitingHoursLaw", name := "settle", desc := "(LVisitingHours;I[J)I" } : Jvm.MethodName)) ∈ lw_all := lw_g (lw_at lw_m8 235 rfl) rfl
theorem q2059 : (Jvm.Cond.static ({ cls := "VisitingHoursLaw", name := "settle", desc := "(LVisitingHours;I[J)I" } : Jvm.MethodName)) ∈ lw_all := lw_g (lw_at lw_m8 236 rfl) rfl
theorem q2060 : (Jvm.Cond.codeWith ({ cls := "VisitingHoursLaw", name := "settle", desc := "(LVisitingHours;I[J)I" } : Jvm.MethodName) method_33_code (4 : Nat) (Option.some Jvm.ClassFile.FieldType.int) [((0 : Nat), (9 : Nat), (12 : Nat), (24 : Nat))]) ∈ lw_all := lw_g (lw_at lw_m8 237 rfl) rfl
theorem q2061 : (Jvm.Cond.methodLink "VisitingHoursLaw" (117 : Nat) ({ cls := "VisitingHours", name := "settle", desc := "(I)I" } : Jvm.MethodName)) ∈ lw_all := lw_g (lw_at lw_m8 238 rfl) rfl
theorem q2069 : (Jvm.Cond.methodLink "VisitingHoursLaw" (294 : Nat) ({ cls := "VisitingHoursLaw", name := "gladder", desc := "(LVisitingHours;I[J)I" } : Jvm.MethodName)) ∈ lw_all := lw_g (lw_at lw_m9 6 rfl) rfl
theorem q2070 : (Jvm.Cond.static ({ cls := "VisitingHoursLaw", name := "gladder", desc := "(LVisitingHours;I[J)I" } : Jvm.MethodName)) ∈ lw_all := lw_g (lw_at lw_m9 7 rfl) rfl
theorem q2071 : (Jvm.Cond.codeWith ({ cls := "VisitingHoursLaw", name := "gladder", desc := "(LVisitingHours;I[J)I" } : Jvm.MethodName) method_34_code (4 : Nat) (Option.some Jvm.ClassFile.FieldType.int) [((0 : Nat), (9 : Nat), (12 : Nat), (13 : Nat))]) ∈ lw_all := lw_g (lw_at lw_m9 8 rfl) rfl
theorem q2072 : (Jvm.Cond.methodLink "VisitingHoursLaw" (120 : Nat) ({ cls := "VisitingHours", name := "gladder", desc := "(I)I" } : Jvm.MethodName)) ∈ lw_all := lw_g (lw_at lw_m9 9 rfl) rfl
theorem q2079 : (Jvm.Cond.methodLink "VisitingHoursLaw" (297 : Nat) ({ cls := "VisitingHoursLaw", name := "ahead", desc := "(LVisitingHours;III[J)I" } : Jvm.MethodName)) ∈ lw_all := lw_g (lw_at lw_m9 16 rfl) rfl
theorem q2080 : (Jvm.Cond.static ({ cls := "VisitingHoursLaw", name := "ahead", desc := "(LVisitingHours;III[J)I" } : Jvm.MethodName)) ∈ lw_all := lw_g (lw_at lw_m9 17 rfl) rfl
theorem q2081 : (Jvm.Cond.codeWith ({ cls := "VisitingHoursLaw", name := "ahead", desc := "(LVisitingHours;III[J)I" } : Jvm.MethodName) method_35_code (6 : Nat) (Option.some Jvm.ClassFile.FieldType.int) [((0 : Nat), (12 : Nat), (15 : Nat), (24 : Nat)), ((0 : Nat), (12 : Nat), (19 : Nat), (13 : Nat)), ((0 : Nat), (12 : Nat), (23 : Nat), (26 : Nat))]) ∈ lw_all := lw_g (lw_at lw_m9 18 rfl) rfl
theorem q2082 : (Jvm.Cond.methodLink "VisitingHoursLaw" (123 : Nat) ({ cls := "VisitingHours", name := "ahead", desc := "(III)I" } : Jvm.MethodName)) ∈ lw_all := lw_g (lw_at lw_m9 19 rfl) rfl
theorem q2086 : (Jvm.Cond.methodLink "VisitingHoursLaw" (300 : Nat) ({ cls := "VisitingHoursLaw", name := "trial", desc := "(LVisitingHours;IZ[J)I" } : Jvm.MethodName)) ∈ lw_all := lw_g (lw_at lw_m9 23 rfl) rfl
theorem q2087 : (Jvm.Cond.static ({ cls := "VisitingHoursLaw", name := "trial", desc := "(LVisitingHours;IZ[J)I" } : Jvm.MethodName)) ∈ lw_all := lw_g (lw_at lw_m9 24 rfl) rfl
theorem q2088 : (Jvm.Cond.codeWith ({ cls := "VisitingHoursLaw", name := "trial", desc := "(LVisitingHours;IZ[J)I" } : Jvm.MethodName) method_36_code (5 : Nat) (Option.some Jvm.ClassFile.FieldType.int) [((0 : Nat), (10 : Nat), (13 : Nat), (13 : Nat))]) ∈ lw_all := lw_g (lw_at lw_m9 25 rfl) rfl
theorem q2089 : (Jvm.Cond.methodLink "VisitingHoursLaw" (126 : Nat) ({ cls := "VisitingHours", name := "trial", desc := "(IZ)I" } : Jvm.MethodName)) ∈ lw_all := lw_g (lw_at lw_m9 26 rfl) rfl
theorem q2097 : (Jvm.Cond.methodLink "VisitingHoursLaw" (304 : Nat) ({ cls := "VisitingHoursLaw", name := "span", desc := "(LVisitingHours;IZ[J)I" } : Jvm.MethodName)) ∈ lw_all := lw_g (lw_at lw_m9 34 rfl) rfl
theorem q2098 : (Jvm.Cond.static ({ cls := "VisitingHoursLaw", name := "span", desc := "(LVisitingHours;IZ[J)I" } : Jvm.MethodName)) ∈ lw_all := lw_g (lw_at lw_m9 35 rfl) rfl
theorem q2099 : (Jvm.Cond.codeWith ({ cls := "VisitingHoursLaw", name := "span", desc := "(LVisitingHours;IZ[J)I" } : Jvm.MethodName) method_37_code (5 : Nat) (Option.some Jvm.ClassFile.FieldType.int) [((0 : Nat), (10 : Nat), (13 : Nat), (13 : Nat))]) ∈ lw_all := lw_g (lw_at lw_m9 36 rfl) rfl
theorem q2100 : (Jvm.Cond.methodLink "VisitingHoursLaw" (130 : Nat) ({ cls := "VisitingHours", name := "span", desc := "(IZ)I" } : Jvm.MethodName)) ∈ lw_all := lw_g (lw_at lw_m9 37 rfl) rfl
theorem q2104 : (Jvm.Cond.methodLink "VisitingHoursLaw" (307 : Nat) ({ cls := "VisitingHoursLaw", name := "led", desc := "(LVisitingHours;IZ[J)I" } : Jvm.MethodName)) ∈ lw_all := lw_g (lw_at lw_m9 41 rfl) rfl
theorem q2105 : (Jvm.Cond.static ({ cls := "VisitingHoursLaw", name := "led", desc := "(LVisitingHours;IZ[J)I" } : Jvm.MethodName)) ∈ lw_all := lw_g (lw_at lw_m9 42 rfl) rfl
theorem q2106 : (Jvm.Cond.codeWith ({ cls := "VisitingHoursLaw", name := "led", desc := "(LVisitingHours;IZ[J)I" } : Jvm.MethodName) method_38_code (5 : Nat) (Option.some Jvm.ClassFile.FieldType.int) [((0 : Nat), (10 : Nat), (13 : Nat), (24 : Nat))]) ∈ lw_all := lw_g (lw_at lw_m9 43 rfl) rfl
theorem q2107 : (Jvm.Cond.methodLink "VisitingHoursLaw" (133 : Nat) ({ cls := "VisitingHours", name := "led", desc := "(IZ)I" } : Jvm.MethodName)) ∈ lw_all := lw_g (lw_at lw_m9 44 rfl) rfl
theorem q2115 : (Jvm.Cond.methodLink "VisitingHoursLaw" (310 : Nat) ({ cls := "VisitingHoursLaw", name := "log", desc := "(LVisitingHours;II[J)I" } : Jvm.MethodName)) ∈ lw_all := lw_g (lw_at lw_m9 52 rfl) rfl
theorem q2116 : (Jvm.Cond.static ({ cls := "VisitingHoursLaw", name := "log", desc := "(LVisitingHours;II[J)I" } : Jvm.MethodName)) ∈ lw_all := lw_g (lw_at lw_m9 53 rfl) rfl
theorem q2117 : (Jvm.Cond.codeWith ({ cls := "VisitingHoursLaw", name := "log", desc := "(LVisitingHours;II[J)I" } : Jvm.MethodName) method_39_code (5 : Nat) (Option.some Jvm.ClassFile.FieldType.int) [((0 : Nat), (10 : Nat), (13 : Nat), (26 : Nat))]) ∈ lw_all := lw_g (lw_at lw_m9 54 rfl) rfl
theorem q2118 : (Jvm.Cond.methodLink "VisitingHoursLaw" (136 : Nat) ({ cls := "VisitingHours", name := "log", desc := "(II)I" } : Jvm.MethodName)) ∈ lw_all := lw_g (lw_at lw_m9 55 rfl) rfl
theorem q2122 : (Jvm.Cond.classLink "VisitingHoursLaw" (140 : Nat) "VisitingHoursModel") ∈ lw_all := lw_g (lw_at lw_m9 59 rfl) rfl
theorem q2124 : (Jvm.Cond.methodLink "VisitingHoursLaw" (142 : Nat) ({ cls := "VisitingHoursModel", name := "<init>", desc := "()V" } : Jvm.MethodName)) ∈ lw_all := lw_g (lw_at lw_m9 61 rfl) rfl
theorem q2214 : (Jvm.Cond.methodLink "VisitingHoursLaw" (159 : Nat) ({ cls := "VisitingHoursModel", name := "thrown", desc := "()I" } : Jvm.MethodName)) ∈ lw_all := lw_g (lw_at lw_m9 151 rfl) rfl
theorem q2218 : (Jvm.Cond.methodLink "VisitingHoursLaw" (147 : Nat) ({ cls := "VisitingHoursModel", name := "feed", desc := "(IIIII)I" } : Jvm.MethodName)) ∈ lw_all := lw_g (lw_at lw_m9 155 rfl) rfl
theorem q2222 : (Jvm.Cond.methodLink "VisitingHoursLaw" (152 : Nat) ({ cls := "VisitingHoursModel", name := "end", desc := "(I)Z" } : Jvm.MethodName)) ∈ lw_all := lw_g (lw_at lw_m9 159 rfl) rfl
theorem q2229 : (Jvm.Cond.methodLink "VisitingHoursLaw" (158 : Nat) ({ cls := "VisitingHoursModel", name := "ground", desc := "()I" } : Jvm.MethodName)) ∈ lw_all := lw_g (lw_at lw_m9 166 rfl) rfl
theorem q2375 : (Jvm.Cond.methodLink "VisitingHoursLaw" (164 : Nat) ({ cls := "VisitingHoursModel", name := "law", desc := "()I" } : Jvm.MethodName)) ∈ lw_all := lw_g (lw_at lw_m10 72 rfl) rfl
theorem q2379 : (Jvm.Cond.methodLink "VisitingHoursLaw" (168 : Nat) ({ cls := "VisitingHoursModel", name := "fault", desc := "()I" } : Jvm.MethodName)) ∈ lw_all := lw_g (lw_at lw_m10 76 rfl) rfl
theorem q2383 : (Jvm.Cond.methodLink "VisitingHoursLaw" (172 : Nat) ({ cls := "VisitingHoursModel", name := "host", desc := "(II)I" } : Jvm.MethodName)) ∈ lw_all := lw_g (lw_at lw_m10 80 rfl) rfl
theorem q2411 : (Jvm.Cond.methodLink "VisitingHoursLaw" (175 : Nat) ({ cls := "VisitingHoursModel", name := "guest", desc := "(II)I" } : Jvm.MethodName)) ∈ lw_all := lw_g (lw_at lw_m10 108 rfl) rfl
theorem q2439 : (Jvm.Cond.methodLink "VisitingHoursLaw" (179 : Nat) ({ cls := "VisitingHoursModel", name := "rank", desc := "(IIZ)I" } : Jvm.MethodName)) ∈ lw_all := lw_g (lw_at lw_m10 136 rfl) rfl
theorem q2447 : (Jvm.Cond.methodLink "VisitingHoursLaw" (182 : Nat) ({ cls := "VisitingHoursModel", name := "booked", desc := "(II)I" } : Jvm.MethodName)) ∈ lw_all := lw_g (lw_at lw_m10 144 rfl) rfl
theorem q2454 : (Jvm.Cond.methodLink "VisitingHoursLaw" (186 : Nat) ({ cls := "VisitingHoursModel", name := "can", desc := "(III)Z" } : Jvm.MethodName)) ∈ lw_all := lw_g (lw_at lw_m10 151 rfl) rfl
theorem q2470 : (Jvm.Cond.methodLink "VisitingHoursLaw" (189 : Nat) ({ cls := "VisitingHoursModel", name := "lets", desc := "(III)Z" } : Jvm.MethodName)) ∈ lw_all := lw_g (lw_at lw_m10 167 rfl) rfl
theorem q2482 : (Jvm.Cond.methodLink "VisitingHoursLaw" (192 : Nat) ({ cls := "VisitingHoursModel", name := "joy", desc := "(III)I" } : Jvm.MethodName)) ∈ lw_all := lw_g (lw_at lw_m10 179 rfl) rfl
theorem q2493 : (Jvm.Cond.methodLink "VisitingHoursLaw" (195 : Nat) ({ cls := "VisitingHoursModel", name := "book", desc := "(III)I" } : Jvm.MethodName)) ∈ lw_all := lw_g (lw_at lw_m10 190 rfl) rfl
theorem q2505 : (Jvm.Cond.methodLink "VisitingHoursLaw" (198 : Nat) ({ cls := "VisitingHoursModel", name := "strike", desc := "(II)I" } : Jvm.MethodName)) ∈ lw_all := lw_g (lw_at lw_m10 202 rfl) rfl
theorem q2509 : (Jvm.Cond.methodLink "VisitingHoursLaw" (201 : Nat) ({ cls := "VisitingHoursModel", name := "change", desc := "(III)I" } : Jvm.MethodName)) ∈ lw_all := lw_g (lw_at lw_m10 206 rfl) rfl
theorem q2513 : (Jvm.Cond.methodLink "VisitingHoursLaw" (204 : Nat) ({ cls := "VisitingHoursModel", name := "mark", desc := "(II)I" } : Jvm.MethodName)) ∈ lw_all := lw_g (lw_at lw_m10 210 rfl) rfl
theorem q2517 : (Jvm.Cond.methodLink "VisitingHoursLaw" (207 : Nat) ({ cls := "VisitingHoursModel", name := "gate", desc := "(II)I" } : Jvm.MethodName)) ∈ lw_all := lw_g (lw_at lw_m10 214 rfl) rfl
theorem q2521 : (Jvm.Cond.methodLink "VisitingHoursLaw" (211 : Nat) ({ cls := "VisitingHoursModel", name := "value", desc := "(IIZI)I" } : Jvm.MethodName)) ∈ lw_all := lw_g (lw_at lw_m10 218 rfl) rfl
theorem q2525 : (Jvm.Cond.methodLink "VisitingHoursLaw" (215 : Nat) ({ cls := "VisitingHoursModel", name := "weeks", desc := "(I)I" } : Jvm.MethodName)) ∈ lw_all := lw_g (lw_at lw_m10 222 rfl) rfl
theorem q2557 : (Jvm.Cond.methodLink "VisitingHoursLaw" (219 : Nat) ({ cls := "VisitingHoursModel", name := "meetings", desc := "(Z)I" } : Jvm.MethodName)) ∈ lw_all := lw_g (lw_at lw_m11 14 rfl) rfl
theorem q2561 : (Jvm.Cond.methodLink "VisitingHoursLaw" (223 : Nat) ({ cls := "VisitingHoursModel", name := "twice", desc := "()I" } : Jvm.MethodName)) ∈ lw_all := lw_g (lw_at lw_m11 18 rfl) rfl
theorem q2565 : (Jvm.Cond.methodLink "VisitingHoursLaw" (227 : Nat) ({ cls := "VisitingHoursModel", name := "taboo", desc := "()I" } : Jvm.MethodName)) ∈ lw_all := lw_g (lw_at lw_m11 22 rfl) rfl
theorem q2569 : (Jvm.Cond.methodLink "VisitingHoursLaw" (230 : Nat) ({ cls := "VisitingHoursModel", name := "hostBest", desc := "(I)I" } : Jvm.MethodName)) ∈ lw_all := lw_g (lw_at lw_m11 26 rfl) rfl
theorem q2593 : (Jvm.Cond.methodLink "VisitingHoursLaw" (233 : Nat) ({ cls := "VisitingHoursModel", name := "guestBest", desc := "(I)I" } : Jvm.MethodName)) ∈ lw_all := lw_g (lw_at lw_m11 50 rfl) rfl
theorem q2597 : (Jvm.Cond.methodLink "VisitingHoursLaw" (237 : Nat) ({ cls := "VisitingHoursModel", name := "ways", desc := "()I" } : Jvm.MethodName)) ∈ lw_all := lw_g (lw_at lw_m11 54 rfl) rfl
theorem q2612 : (Jvm.Cond.methodLink "VisitingHoursLaw" (240 : Nat) ({ cls := "VisitingHoursModel", name := "rather", desc := "()I" } : Jvm.MethodName)) ∈ lw_all := lw_g (lw_at lw_m11 69 rfl) rfl
theorem q2616 : (Jvm.Cond.methodLink "VisitingHoursLaw" (243 : Nat) ({ cls := "VisitingHoursModel", name := "row", desc := "(IIZ)I" } : Jvm.MethodName)) ∈ lw_all := lw_g (lw_at lw_m11 73 rfl) rfl
theorem q2628 : (Jvm.Cond.methodLink "VisitingHoursLaw" (246 : Nat) ({ cls := "VisitingHoursModel", name := "afternoon", desc := "(II)I" } : Jvm.MethodName)) ∈ lw_all := lw_g (lw_at lw_m11 85 rfl) rfl
theorem q2644 : (Jvm.Cond.methodLink "VisitingHoursLaw" (266 : Nat) ({ cls := "VisitingHoursModel", name := "lend", desc := "(I)I" } : Jvm.MethodName)) ∈ lw_all := lw_g (lw_at lw_m11 101 rfl) rfl
theorem q2648 : (Jvm.Cond.methodLink "VisitingHoursLaw" (250 : Nat) ({ cls := "VisitingHoursModel", name := "rules", desc := "(Z)I" } : Jvm.MethodName)) ∈ lw_all := lw_g (lw_at lw_m11 105 rfl) rfl
theorem q2659 : (Jvm.Cond.methodLink "VisitingHoursLaw" (253 : Nat) ({ cls := "VisitingHoursModel", name := "send", desc := "()I" } : Jvm.MethodName)) ∈ lw_all := lw_g (lw_at lw_m11 116 rfl) rfl
theorem q2664 : (Jvm.Cond.methodLink "VisitingHoursLaw" (256 : Nat) ({ cls := "VisitingHoursModel", name := "hand", desc := "(Z)I" } : Jvm.MethodName)) ∈ lw_all := lw_g (lw_at lw_m11 121 rfl) rfl
theorem q2672 : (Jvm.Cond.methodLink "VisitingHoursLaw" (260 : Nat) ({ cls := "VisitingHoursModel", name := "dry", desc := "()I" } : Jvm.MethodName)) ∈ lw_all := lw_g (lw_at lw_m11 129 rfl) rfl
theorem q2680 : (Jvm.Cond.methodLink "VisitingHoursLaw" (263 : Nat) ({ cls := "VisitingHoursModel", name := "saved", desc := "(II)I" } : Jvm.MethodName)) ∈ lw_all := lw_g (lw_at lw_m11 137 rfl) rfl
theorem q2684 : (Jvm.Cond.methodLink "VisitingHoursLaw" (269 : Nat) ({ cls := "VisitingHoursModel", name := "odds", desc := "(II)I" } : Jvm.MethodName)) ∈ lw_all := lw_g (lw_at lw_m11 141 rfl) rfl
theorem q2692 : (Jvm.Cond.methodLink "VisitingHoursLaw" (272 : Nat) ({ cls := "VisitingHoursModel", name := "waits", desc := "(II)I" } : Jvm.MethodName)) ∈ lw_all := lw_g (lw_at lw_m11 149 rfl) rfl
theorem q2696 : (Jvm.Cond.methodLink "VisitingHoursLaw" (275 : Nat) ({ cls := "VisitingHoursModel", name := "treaty", desc := "(II)I" } : Jvm.MethodName)) ∈ lw_all := lw_g (lw_at lw_m11 153 rfl) rfl
theorem q2704 : (Jvm.Cond.methodLink "VisitingHoursLaw" (278 : Nat) ({ cls := "VisitingHoursModel", name := "rests", desc := "(II)I" } : Jvm.MethodName)) ∈ lw_all := lw_g (lw_at lw_m11 161 rfl) rfl
theorem q2715 : (Jvm.Cond.methodLink "VisitingHoursLaw" (282 : Nat) ({ cls := "VisitingHoursModel", name := "dearest", desc := "()I" } : Jvm.MethodName)) ∈ lw_all := lw_g (lw_at lw_m11 172 rfl) rfl
theorem q2719 : (Jvm.Cond.methodLink "VisitingHoursLaw" (286 : Nat) ({ cls := "VisitingHoursModel", name := "forlorn", desc := "()I" } : Jvm.MethodName)) ∈ lw_all := lw_g (lw_at lw_m11 176 rfl) rfl
theorem q2723 : (Jvm.Cond.methodLink "VisitingHoursLaw" (290 : Nat) ({ cls := "VisitingHoursModel", name := "alike", desc := "()I" } : Jvm.MethodName)) ∈ lw_all := lw_g (lw_at lw_m11 180 rfl) rfl
theorem q2731 : (Jvm.Cond.methodLink "VisitingHoursLaw" (293 : Nat) ({ cls := "VisitingHoursModel", name := "settle", desc := "(I)I" } : Jvm.MethodName)) ∈ lw_all := lw_g (lw_at lw_m11 188 rfl) rfl
theorem q2735 : (Jvm.Cond.methodLink "VisitingHoursLaw" (296 : Nat) ({ cls := "VisitingHoursModel", name := "gladder", desc := "(I)I" } : Jvm.MethodName)) ∈ lw_all := lw_g (lw_at lw_m11 192 rfl) rfl
theorem q2739 : (Jvm.Cond.methodLink "VisitingHoursLaw" (299 : Nat) ({ cls := "VisitingHoursModel", name := "ahead", desc := "(III)I" } : Jvm.MethodName)) ∈ lw_all := lw_g (lw_at lw_m11 196 rfl) rfl
theorem q2743 : (Jvm.Cond.methodLink "VisitingHoursLaw" (303 : Nat) ({ cls := "VisitingHoursModel", name := "trial", desc := "(IZ)I" } : Jvm.MethodName)) ∈ lw_all := lw_g (lw_at lw_m11 200 rfl) rfl
theorem q2747 : (Jvm.Cond.methodLink "VisitingHoursLaw" (306 : Nat) ({ cls := "VisitingHoursModel", name := "span", desc := "(IZ)I" } : Jvm.MethodName)) ∈ lw_all := lw_g (lw_at lw_m11 204 rfl) rfl
theorem q2751 : (Jvm.Cond.methodLink "VisitingHoursLaw" (309 : Nat) ({ cls := "VisitingHoursModel", name := "led", desc := "(IZ)I" } : Jvm.MethodName)) ∈ lw_all := lw_g (lw_at lw_m11 208 rfl) rfl
theorem q2759 : (Jvm.Cond.methodLink "VisitingHoursLaw" (312 : Nat) ({ cls := "VisitingHoursModel", name := "log", desc := "(II)I" } : Jvm.MethodName)) ∈ lw_all := lw_g (lw_at lw_m11 216 rfl) rfl
theorem q2763 : (Jvm.Cond.methodLink "VisitingHoursLaw" (316 : Nat) ({ cls := "VisitingHoursModel", name := "seed", desc := "(I)I" } : Jvm.MethodName)) ∈ lw_all := lw_g (lw_at lw_m11 220 rfl) rfl
theorem q2767 : (Jvm.Cond.methodLink "VisitingHoursLaw" (321 : Nat) ({ cls := "VisitingHoursModel", name := "undo", desc := "()Z" } : Jvm.MethodName)) ∈ lw_all := lw_g (lw_at lw_m11 224 rfl) rfl
theorem q2771 : (Jvm.Cond.methodLink "VisitingHoursLaw" (325 : Nat) ({ cls := "VisitingHoursModel", name := "image", desc := "()V" } : Jvm.MethodName)) ∈ lw_all := lw_g (lw_at lw_m11 228 rfl) rfl
theorem q2775 : (Jvm.Cond.methodLink "VisitingHoursLaw" (329 : Nat) ({ cls := "VisitingHoursModel", name := "back", desc := "()Z" } : Jvm.MethodName)) ∈ lw_all := lw_g (lw_at lw_m11 232 rfl) rfl
theorem q2779 : (Jvm.Cond.methodLink "VisitingHoursLaw" (333 : Nat) ({ cls := "VisitingHoursModel", name := "count", desc := "(I)I" } : Jvm.MethodName)) ∈ lw_all := lw_g (lw_at lw_m11 236 rfl) rfl
/-! the law's own entry -/
set_option maxRecDepth 100000
abbrev cL_law : ByteArray := code
def dkwL_law_127 : List UInt8 := [46, 182, 1, 77, 159, 0, 5, 3, 172, 132, 4, 6, 167, 243, 164, 4, 172]
abbrev dktL_law_127 : List UInt8 := dkwL_law_127 ++ []
def dkwL_law_126 : List UInt8 := [182, 1, 73, 159, 0, 30, 3, 172, 43, 42, 21, 4, 4, 96, 46, 182, 1, 74, 44, 42, 21, 4, 4, 96]
abbrev dktL_law_126 : List UInt8 := dkwL_law_126 ++ dktL_law_127
def dkwL_law_125 : List UInt8 := [182, 1, 65, 159, 0, 54, 3, 172, 43, 182, 1, 66, 44, 182, 1, 69, 167, 0, 41, 43, 182, 1, 70, 44]
abbrev dktL_law_125 : List UInt8 := dkwL_law_125 ++ dktL_law_126
def dkwL_law_124 : List UInt8 := [46, 182, 1, 57, 44, 42, 21, 4, 4, 96, 46, 182, 1, 60, 159, 0, 67, 3, 172, 43, 182, 1, 61, 44]
abbrev dktL_law_124 : List UInt8 := dkwL_law_124 ++ dktL_law_125
def dkwL_law_123 : List UInt8 := [154, 0, 15, 45, 3, 47, 21, 6, 133, 148, 153, 0, 5, 3, 172, 167, 0, 90, 43, 42, 21, 4, 4, 96]
abbrev dktL_law_123 : List UInt8 := dkwL_law_123 ++ dktL_law_124
def dkwL_law_122 : List UInt8 := [21, 4, 5, 96, 46, 182, 1, 56, 54, 6, 44, 182, 0, 159, 21, 5, 159, 0, 5, 3, 172, 21, 5]
abbrev dktL_law_122 : List UInt8 := dkwL_law_122 ++ dktL_law_123
def dkwL_law_121 : List UInt8 := [4, 96, 46, 42, 21, 4, 5, 96, 46, 45, 184, 1, 54, 54, 5, 44, 42, 21, 4, 4, 96, 46, 42]
abbrev dktL_law_121 : List UInt8 := dkwL_law_121 ++ dktL_law_122
def dkwL_law_120 : List UInt8 := [21, 5, 154, 0, 15, 45, 3, 47, 21, 6, 133, 148, 153, 0, 5, 3, 172, 167, 0, 158, 43, 42, 21, 4]
abbrev dktL_law_120 : List UInt8 := dkwL_law_120 ++ dktL_law_121
def dkwL_law_119 : List UInt8 := [153, 0, 7, 4, 167, 0, 4, 3, 182, 1, 53, 54, 6, 44, 182, 0, 159, 21, 5, 159, 0, 5, 3, 172]
abbrev dktL_law_119 : List UInt8 := dkwL_law_119 ++ dktL_law_120
def dkwL_law_118 : List UInt8 := [4, 167, 0, 4, 3, 45, 184, 1, 51, 54, 5, 44, 42, 21, 4, 4, 96, 46, 42, 21, 4, 5, 96, 46]
abbrev dktL_law_118 : List UInt8 := dkwL_law_118 ++ dktL_law_119
def dkwL_law_117 : List UInt8 := [153, 0, 5, 3, 172, 167, 0, 242, 43, 42, 21, 4, 4, 96, 46, 42, 21, 4, 5, 96, 46, 153, 0, 7]
abbrev dktL_law_117 : List UInt8 := dkwL_law_117 ++ dktL_law_118
def dkwL_law_116 : List UInt8 := [44, 182, 0, 159, 21, 5, 159, 0, 5, 3, 172, 21, 5, 154, 0, 15, 45, 3, 47, 21, 6, 133, 148]
abbrev dktL_law_116 : List UInt8 := dkwL_law_116 ++ dktL_law_117
def dkwL_law_115 : List UInt8 := [21, 4, 4, 96, 46, 42, 21, 4, 5, 96, 46, 153, 0, 7, 4, 167, 0, 4, 3, 182, 1, 50, 54, 6]
abbrev dktL_law_115 : List UInt8 := dkwL_law_115 ++ dktL_law_116
def dkwL_law_114 : List UInt8 := [46, 42, 21, 4, 5, 96, 46, 153, 0, 7, 4, 167, 0, 4, 3, 45, 184, 1, 48, 54, 5, 44, 42]
abbrev dktL_law_114 : List UInt8 := dkwL_law_114 ++ dktL_law_115
def dkwL_law_113 : List UInt8 := [154, 0, 15, 45, 3, 47, 21, 6, 133, 148, 153, 0, 5, 3, 172, 167, 1, 70, 43, 42, 21, 4, 4, 96]
abbrev dktL_law_113 : List UInt8 := dkwL_law_113 ++ dktL_law_114
def dkwL_law_112 : List UInt8 := [167, 0, 4, 3, 182, 1, 47, 54, 6, 44, 182, 0, 159, 21, 5, 159, 0, 5, 3, 172, 21, 5]
abbrev dktL_law_112 : List UInt8 := dkwL_law_112 ++ dktL_law_113
def dkwL_law_111 : List UInt8 := [45, 184, 1, 44, 54, 5, 44, 42, 21, 4, 4, 96, 46, 42, 21, 4, 5, 96, 46, 153, 0, 7, 4]
abbrev dktL_law_111 : List UInt8 := dkwL_law_111 ++ dktL_law_112
def dkwL_law_110 : List UInt8 := [167, 1, 154, 43, 42, 21, 4, 4, 96, 46, 42, 21, 4, 5, 96, 46, 153, 0, 7, 4, 167, 0, 4, 3]
abbrev dktL_law_110 : List UInt8 := dkwL_law_110 ++ dktL_law_111
def dkwL_law_109 : List UInt8 := [21, 5, 159, 0, 5, 3, 172, 21, 5, 154, 0, 15, 45, 3, 47, 21, 6, 133, 148, 153, 0, 5, 3, 172]
abbrev dktL_law_109 : List UInt8 := dkwL_law_109 ++ dktL_law_110
def dkwL_law_108 : List UInt8 := [96, 46, 42, 21, 4, 5, 96, 46, 42, 21, 4, 6, 96, 46, 182, 1, 43, 54, 6, 44, 182, 0, 159]
abbrev dktL_law_108 : List UInt8 := dkwL_law_108 ++ dktL_law_109
def dkwL_law_107 : List UInt8 := [46, 42, 21, 4, 5, 96, 46, 42, 21, 4, 6, 96, 46, 45, 184, 1, 41, 54, 5, 44, 42, 21, 4, 4]
abbrev dktL_law_107 : List UInt8 := dkwL_law_107 ++ dktL_law_108
def dkwL_law_106 : List UInt8 := [154, 0, 15, 45, 3, 47, 21, 6, 133, 148, 153, 0, 5, 3, 172, 167, 1, 234, 43, 42, 21, 4, 4, 96]
abbrev dktL_law_106 : List UInt8 := dkwL_law_106 ++ dktL_law_107
def dkwL_law_105 : List UInt8 := [21, 4, 4, 96, 46, 182, 1, 40, 54, 6, 44, 182, 0, 159, 21, 5, 159, 0, 5, 3, 172, 21, 5]
abbrev dktL_law_105 : List UInt8 := dkwL_law_105 ++ dktL_law_106
def dkwL_law_104 : List UInt8 := [148, 153, 0, 5, 3, 172, 167, 2, 34, 43, 42, 21, 4, 4, 96, 46, 45, 184, 1, 38, 54, 5, 44, 42]
abbrev dktL_law_104 : List UInt8 := dkwL_law_104 ++ dktL_law_105
def dkwL_law_103 : List UInt8 := [54, 6, 44, 182, 0, 159, 21, 5, 159, 0, 5, 3, 172, 21, 5, 154, 0, 15, 45, 3, 47, 21, 6, 133]
abbrev dktL_law_103 : List UInt8 := dkwL_law_103 ++ dktL_law_104
def dkwL_law_102 : List UInt8 := [172, 43, 42, 21, 4, 4, 96, 46, 45, 184, 1, 35, 54, 5, 44, 42, 21, 4, 4, 96, 46, 182, 1, 37]
abbrev dktL_law_102 : List UInt8 := dkwL_law_102 ++ dktL_law_103
def dkwL_law_101 : List UInt8 := [182, 1, 27, 44, 182, 1, 30, 159, 2, 105, 3, 172, 43, 182, 1, 31, 44, 182, 1, 34, 159, 2, 92, 3]
abbrev dktL_law_101 : List UInt8 := dkwL_law_101 ++ dktL_law_102
def dkwL_law_100 : List UInt8 := [153, 0, 5, 3, 172, 167, 2, 129, 43, 182, 1, 23, 44, 182, 1, 26, 159, 2, 118, 3, 172, 43]
abbrev dktL_law_100 : List UInt8 := dkwL_law_100 ++ dktL_law_101
def dkwL_law_99 : List UInt8 := [182, 0, 159, 21, 5, 159, 0, 5, 3, 172, 21, 5, 154, 0, 15, 45, 3, 47, 21, 6, 133, 148]
abbrev dktL_law_99 : List UInt8 := dkwL_law_99 ++ dktL_law_100
def dkwL_law_98 : List UInt8 := [184, 1, 20, 54, 5, 44, 42, 21, 4, 4, 96, 46, 42, 21, 4, 5, 96, 46, 182, 1, 22, 54, 6, 44]
abbrev dktL_law_98 : List UInt8 := dkwL_law_98 ++ dktL_law_99
def dkwL_law_97 : List UInt8 := [148, 153, 0, 5, 3, 172, 167, 2, 197, 43, 42, 21, 4, 4, 96, 46, 42, 21, 4, 5, 96, 46, 45]
abbrev dktL_law_97 : List UInt8 := dkwL_law_97 ++ dktL_law_98
def dkwL_law_96 : List UInt8 := [54, 6, 44, 182, 0, 159, 21, 5, 159, 0, 5, 3, 172, 21, 5, 154, 0, 15, 45, 3, 47, 21, 6, 133]
abbrev dktL_law_96 : List UInt8 := dkwL_law_96 ++ dktL_law_97
def dkwL_law_95 : List UInt8 := [46, 45, 184, 1, 17, 54, 5, 44, 42, 21, 4, 4, 96, 46, 42, 21, 4, 5, 96, 46, 182, 1, 19]
abbrev dktL_law_95 : List UInt8 := dkwL_law_95 ++ dktL_law_96
def dkwL_law_94 : List UInt8 := [21, 6, 133, 148, 153, 0, 5, 3, 172, 167, 3, 9, 43, 42, 21, 4, 4, 96, 46, 42, 21, 4, 5, 96]
abbrev dktL_law_94 : List UInt8 := dkwL_law_94 ++ dktL_law_95
def dkwL_law_93 : List UInt8 := [182, 1, 16, 54, 6, 44, 182, 0, 159, 21, 5, 159, 0, 5, 3, 172, 21, 5, 154, 0, 15, 45, 3, 47]
abbrev dktL_law_93 : List UInt8 := dkwL_law_93 ++ dktL_law_94
def dkwL_law_92 : List UInt8 := [5, 96, 46, 45, 184, 1, 14, 54, 5, 44, 42, 21, 4, 4, 96, 46, 42, 21, 4, 5, 96, 46]
abbrev dktL_law_92 : List UInt8 := dkwL_law_92 ++ dktL_law_93
def dkwL_law_91 : List UInt8 := [3, 47, 21, 6, 133, 148, 153, 0, 5, 3, 172, 167, 3, 77, 43, 42, 21, 4, 4, 96, 46, 42, 21, 4]
abbrev dktL_law_91 : List UInt8 := dkwL_law_91 ++ dktL_law_92
def dkwL_law_90 : List UInt8 := [96, 46, 182, 1, 13, 54, 6, 44, 182, 0, 159, 21, 5, 159, 0, 5, 3, 172, 21, 5, 154, 0, 15, 45]
abbrev dktL_law_90 : List UInt8 := dkwL_law_90 ++ dktL_law_91
def dkwL_law_89 : List UInt8 := [46, 42, 21, 4, 5, 96, 46, 45, 184, 1, 11, 54, 5, 44, 42, 21, 4, 4, 96, 46, 42, 21, 4, 5]
abbrev dktL_law_89 : List UInt8 := dkwL_law_89 ++ dktL_law_90
def dkwL_law_88 : List UInt8 := [154, 0, 15, 45, 3, 47, 21, 6, 133, 148, 153, 0, 5, 3, 172, 167, 3, 145, 43, 42, 21, 4, 4, 96]
abbrev dktL_law_88 : List UInt8 := dkwL_law_88 ++ dktL_law_89
def dkwL_law_87 : List UInt8 := [21, 4, 4, 96, 46, 182, 1, 10, 54, 6, 44, 182, 0, 159, 21, 5, 159, 0, 5, 3, 172, 21, 5]
abbrev dktL_law_87 : List UInt8 := dkwL_law_87 ++ dktL_law_88
def dkwL_law_86 : List UInt8 := [153, 0, 5, 3, 172, 167, 3, 201, 43, 42, 21, 4, 4, 96, 46, 45, 184, 1, 8, 54, 5, 44, 42]
abbrev dktL_law_86 : List UInt8 := dkwL_law_86 ++ dktL_law_87
def dkwL_law_85 : List UInt8 := [182, 0, 159, 21, 5, 159, 0, 5, 3, 172, 21, 5, 154, 0, 15, 45, 3, 47, 21, 6, 133, 148]
abbrev dktL_law_85 : List UInt8 := dkwL_law_85 ++ dktL_law_86
def dkwL_law_84 : List UInt8 := [184, 1, 5, 54, 5, 44, 42, 21, 4, 4, 96, 46, 42, 21, 4, 5, 96, 46, 182, 1, 7, 54, 6, 44]
abbrev dktL_law_84 : List UInt8 := dkwL_law_84 ++ dktL_law_85
def dkwL_law_83 : List UInt8 := [44, 182, 1, 4, 159, 4, 15, 3, 172, 43, 42, 21, 4, 4, 96, 46, 42, 21, 4, 5, 96, 46, 45]
abbrev dktL_law_83 : List UInt8 := dkwL_law_83 ++ dktL_law_84
def dkwL_law_82 : List UInt8 := [21, 5, 154, 0, 15, 45, 3, 47, 21, 6, 133, 148, 153, 0, 5, 3, 172, 167, 4, 26, 43, 182, 1, 1]
abbrev dktL_law_82 : List UInt8 := dkwL_law_82 ++ dktL_law_83
def dkwL_law_81 : List UInt8 := [153, 0, 7, 4, 167, 0, 4, 3, 182, 1, 0, 54, 6, 44, 182, 0, 159, 21, 5, 159, 0, 5, 3, 172]
abbrev dktL_law_81 : List UInt8 := dkwL_law_81 ++ dktL_law_82
def dkwL_law_80 : List UInt8 := [46, 153, 0, 7, 4, 167, 0, 4, 3, 45, 184, 0, 254, 54, 5, 44, 42, 21, 4, 4, 96, 46]
abbrev dktL_law_80 : List UInt8 := dkwL_law_80 ++ dktL_law_81
def dkwL_law_79 : List UInt8 := [154, 0, 15, 45, 3, 47, 21, 6, 133, 148, 153, 0, 5, 3, 172, 167, 4, 98, 43, 42, 21, 4, 4, 96]
abbrev dktL_law_79 : List UInt8 := dkwL_law_79 ++ dktL_law_80
def dkwL_law_78 : List UInt8 := [184, 0, 251, 54, 5, 44, 182, 0, 253, 54, 6, 44, 182, 0, 159, 21, 5, 159, 0, 5, 3, 172, 21, 5]
abbrev dktL_law_78 : List UInt8 := dkwL_law_78 ++ dktL_law_79
def dkwL_law_77 : List UInt8 := [21, 5, 154, 0, 15, 45, 3, 47, 21, 6, 133, 148, 153, 0, 5, 3, 172, 167, 4, 142, 43, 45]
abbrev dktL_law_77 : List UInt8 := dkwL_law_77 ++ dktL_law_78
def dkwL_law_76 : List UInt8 := [153, 0, 7, 4, 167, 0, 4, 3, 182, 0, 250, 54, 6, 44, 182, 0, 159, 21, 5, 159, 0, 5, 3, 172]
abbrev dktL_law_76 : List UInt8 := dkwL_law_76 ++ dktL_law_77
def dkwL_law_75 : List UInt8 := [46, 153, 0, 7, 4, 167, 0, 4, 3, 45, 184, 0, 247, 54, 5, 44, 42, 21, 4, 4, 96, 46]
abbrev dktL_law_75 : List UInt8 := dkwL_law_75 ++ dktL_law_76
def dkwL_law_74 : List UInt8 := [154, 0, 15, 45, 3, 47, 21, 6, 133, 148, 153, 0, 5, 3, 172, 167, 4, 214, 43, 42, 21, 4, 4, 96]
abbrev dktL_law_74 : List UInt8 := dkwL_law_74 ++ dktL_law_75
def dkwL_law_73 : List UInt8 := [21, 4, 5, 96, 46, 182, 0, 246, 54, 6, 44, 182, 0, 159, 21, 5, 159, 0, 5, 3, 172, 21, 5]
abbrev dktL_law_73 : List UInt8 := dkwL_law_73 ++ dktL_law_74
def dkwL_law_72 : List UInt8 := [4, 96, 46, 42, 21, 4, 5, 96, 46, 45, 184, 0, 244, 54, 5, 44, 42, 21, 4, 4, 96, 46, 42]
abbrev dktL_law_72 : List UInt8 := dkwL_law_72 ++ dktL_law_73
def dkwL_law_71 : List UInt8 := [21, 5, 154, 0, 15, 45, 3, 47, 21, 6, 133, 148, 153, 0, 5, 3, 172, 167, 5, 26, 43, 42, 21, 4]
abbrev dktL_law_71 : List UInt8 := dkwL_law_71 ++ dktL_law_72
def dkwL_law_70 : List UInt8 := [153, 0, 7, 4, 167, 0, 4, 3, 182, 0, 243, 54, 6, 44, 182, 0, 159, 21, 5, 159, 0, 5, 3, 172]
abbrev dktL_law_70 : List UInt8 := dkwL_law_70 ++ dktL_law_71
def dkwL_law_69 : List UInt8 := [184, 0, 241, 54, 5, 44, 42, 21, 4, 4, 96, 46, 42, 21, 4, 5, 96, 46, 42, 21, 4, 6, 96, 46]
abbrev dktL_law_69 : List UInt8 := dkwL_law_69 ++ dktL_law_70
def dkwL_law_68 : List UInt8 := [46, 42, 21, 4, 5, 96, 46, 42, 21, 4, 6, 96, 46, 153, 0, 7, 4, 167, 0, 4, 3, 45]
abbrev dktL_law_68 : List UInt8 := dkwL_law_68 ++ dktL_law_69
def dkwL_law_67 : List UInt8 := [154, 0, 15, 45, 3, 47, 21, 6, 133, 148, 153, 0, 5, 3, 172, 167, 5, 122, 43, 42, 21, 4, 4, 96]
abbrev dktL_law_67 : List UInt8 := dkwL_law_67 ++ dktL_law_68
def dkwL_law_66 : List UInt8 := [184, 0, 238, 54, 5, 44, 182, 0, 240, 54, 6, 44, 182, 0, 159, 21, 5, 159, 0, 5, 3, 172, 21, 5]
abbrev dktL_law_66 : List UInt8 := dkwL_law_66 ++ dktL_law_67
def dkwL_law_65 : List UInt8 := [153, 0, 5, 3, 172, 167, 5, 179, 43, 182, 0, 234, 44, 182, 0, 237, 159, 5, 168, 3, 172, 43, 45]
abbrev dktL_law_65 : List UInt8 := dkwL_law_65 ++ dktL_law_66
def dkwL_law_64 : List UInt8 := [182, 0, 159, 21, 5, 159, 0, 5, 3, 172, 21, 5, 154, 0, 15, 45, 3, 47, 21, 6, 133, 148]
abbrev dktL_law_64 : List UInt8 := dkwL_law_64 ++ dktL_law_65
def dkwL_law_63 : List UInt8 := [21, 4, 4, 96, 46, 45, 184, 0, 231, 54, 5, 44, 42, 21, 4, 4, 96, 46, 182, 0, 233, 54, 6, 44]
abbrev dktL_law_63 : List UInt8 := dkwL_law_63 ++ dktL_law_64
def dkwL_law_62 : List UInt8 := [172, 21, 5, 154, 0, 15, 45, 3, 47, 21, 6, 133, 148, 153, 0, 5, 3, 172, 167, 5, 235, 43, 42]
abbrev dktL_law_62 : List UInt8 := dkwL_law_62 ++ dktL_law_63
def dkwL_law_61 : List UInt8 := [54, 5, 44, 42, 21, 4, 4, 96, 46, 182, 0, 230, 54, 6, 44, 182, 0, 159, 21, 5, 159, 0, 5, 3]
abbrev dktL_law_61 : List UInt8 := dkwL_law_61 ++ dktL_law_62
def dkwL_law_60 : List UInt8 := [182, 0, 224, 44, 182, 0, 227, 159, 6, 37, 3, 172, 43, 42, 21, 4, 4, 96, 46, 45, 184, 0, 228]
abbrev dktL_law_60 : List UInt8 := dkwL_law_60 ++ dktL_law_61
def dkwL_law_59 : List UInt8 := [182, 0, 219, 159, 6, 63, 3, 172, 43, 182, 0, 220, 44, 182, 0, 223, 159, 6, 50, 3, 172, 43]
abbrev dktL_law_59 : List UInt8 := dkwL_law_59 ++ dktL_law_60
def dkwL_law_58 : List UInt8 := [167, 0, 4, 3, 182, 0, 216, 44, 42, 21, 4, 4, 96, 46, 153, 0, 7, 4, 167, 0, 4, 3]
abbrev dktL_law_58 : List UInt8 := dkwL_law_58 ++ dktL_law_59
def dkwL_law_57 : List UInt8 := [21, 6, 133, 148, 153, 0, 5, 3, 172, 167, 6, 102, 43, 42, 21, 4, 4, 96, 46, 153, 0, 7, 4]
abbrev dktL_law_57 : List UInt8 := dkwL_law_57 ++ dktL_law_58
def dkwL_law_56 : List UInt8 := [182, 0, 215, 54, 6, 44, 182, 0, 159, 21, 5, 159, 0, 5, 3, 172, 21, 5, 154, 0, 15, 45, 3, 47]
abbrev dktL_law_56 : List UInt8 := dkwL_law_56 ++ dktL_law_57
def dkwL_law_55 : List UInt8 := [167, 6, 158, 43, 42, 21, 4, 4, 96, 46, 45, 184, 0, 212, 54, 5, 44, 42, 21, 4, 4, 96, 46]
abbrev dktL_law_55 : List UInt8 := dkwL_law_55 ++ dktL_law_56
def dkwL_law_54 : List UInt8 := [21, 5, 159, 0, 5, 3, 172, 21, 5, 154, 0, 15, 45, 3, 47, 21, 6, 133, 148, 153, 0, 5, 3, 172]
abbrev dktL_law_54 : List UInt8 := dkwL_law_54 ++ dktL_law_55
def dkwL_law_53 : List UInt8 := [153, 0, 7, 4, 167, 0, 4, 3, 42, 21, 4, 7, 96, 46, 182, 0, 211, 54, 6, 44, 182, 0, 159]
abbrev dktL_law_53 : List UInt8 := dkwL_law_53 ++ dktL_law_54
def dkwL_law_52 : List UInt8 := [184, 0, 208, 54, 5, 44, 42, 21, 4, 4, 96, 46, 42, 21, 4, 5, 96, 46, 42, 21, 4, 6, 96, 46]
abbrev dktL_law_52 : List UInt8 := dkwL_law_52 ++ dktL_law_53
def dkwL_law_51 : List UInt8 := [46, 42, 21, 4, 6, 96, 46, 153, 0, 7, 4, 167, 0, 4, 3, 42, 21, 4, 7, 96, 46, 45]
abbrev dktL_law_51 : List UInt8 := dkwL_law_51 ++ dktL_law_52
def dkwL_law_50 : List UInt8 := [21, 6, 133, 148, 153, 0, 5, 3, 172, 167, 7, 10, 43, 42, 21, 4, 4, 96, 46, 42, 21, 4, 5, 96]
abbrev dktL_law_50 : List UInt8 := dkwL_law_50 ++ dktL_law_51
def dkwL_law_49 : List UInt8 := [182, 0, 207, 54, 6, 44, 182, 0, 159, 21, 5, 159, 0, 5, 3, 172, 21, 5, 154, 0, 15, 45, 3, 47]
abbrev dktL_law_49 : List UInt8 := dkwL_law_49 ++ dktL_law_50
def dkwL_law_48 : List UInt8 := [5, 96, 46, 45, 184, 0, 205, 54, 5, 44, 42, 21, 4, 4, 96, 46, 42, 21, 4, 5, 96, 46]
abbrev dktL_law_48 : List UInt8 := dkwL_law_48 ++ dktL_law_49
def dkwL_law_47 : List UInt8 := [3, 47, 21, 6, 133, 148, 153, 0, 5, 3, 172, 167, 7, 78, 43, 42, 21, 4, 4, 96, 46, 42, 21, 4]
abbrev dktL_law_47 : List UInt8 := dkwL_law_47 ++ dktL_law_48
def dkwL_law_46 : List UInt8 := [96, 46, 182, 0, 204, 54, 6, 44, 182, 0, 159, 21, 5, 159, 0, 5, 3, 172, 21, 5, 154, 0, 15, 45]
abbrev dktL_law_46 : List UInt8 := dkwL_law_46 ++ dktL_law_47
def dkwL_law_45 : List UInt8 := [46, 42, 21, 4, 5, 96, 46, 45, 184, 0, 202, 54, 5, 44, 42, 21, 4, 4, 96, 46, 42, 21, 4, 5]
abbrev dktL_law_45 : List UInt8 := dkwL_law_45 ++ dktL_law_46
def dkwL_law_44 : List UInt8 := [154, 0, 15, 45, 3, 47, 21, 6, 133, 148, 153, 0, 5, 3, 172, 167, 7, 146, 43, 42, 21, 4, 4, 96]
abbrev dktL_law_44 : List UInt8 := dkwL_law_44 ++ dktL_law_45
def dkwL_law_43 : List UInt8 := [42, 21, 4, 6, 96, 46, 182, 0, 201, 54, 6, 44, 182, 0, 159, 21, 5, 159, 0, 5, 3, 172, 21, 5]
abbrev dktL_law_43 : List UInt8 := dkwL_law_43 ++ dktL_law_44
def dkwL_law_42 : List UInt8 := [21, 4, 6, 96, 46, 45, 184, 0, 199, 54, 5, 44, 42, 21, 4, 4, 96, 46, 42, 21, 4, 5, 96, 46]
abbrev dktL_law_42 : List UInt8 := dkwL_law_42 ++ dktL_law_43
def dkwL_law_41 : List UInt8 := [148, 153, 0, 5, 3, 172, 167, 7, 226, 43, 42, 21, 4, 4, 96, 46, 42, 21, 4, 5, 96, 46, 42]
abbrev dktL_law_41 : List UInt8 := dkwL_law_41 ++ dktL_law_42
def dkwL_law_40 : List UInt8 := [54, 6, 44, 182, 0, 159, 21, 5, 159, 0, 5, 3, 172, 21, 5, 154, 0, 15, 45, 3, 47, 21, 6, 133]
abbrev dktL_law_40 : List UInt8 := dkwL_law_40 ++ dktL_law_41
def dkwL_law_39 : List UInt8 := [46, 45, 184, 0, 196, 54, 5, 44, 42, 21, 4, 4, 96, 46, 42, 21, 4, 5, 96, 46, 182, 0, 198]
abbrev dktL_law_39 : List UInt8 := dkwL_law_39 ++ dktL_law_40
def dkwL_law_38 : List UInt8 := [21, 6, 133, 148, 153, 0, 5, 3, 172, 167, 8, 38, 43, 42, 21, 4, 4, 96, 46, 42, 21, 4, 5, 96]
abbrev dktL_law_38 : List UInt8 := dkwL_law_38 ++ dktL_law_39
def dkwL_law_37 : List UInt8 := [182, 0, 195, 54, 6, 44, 182, 0, 159, 21, 5, 159, 0, 5, 3, 172, 21, 5, 154, 0, 15, 45, 3, 47]
abbrev dktL_law_37 : List UInt8 := dkwL_law_37 ++ dktL_law_38
def dkwL_law_36 : List UInt8 := [184, 0, 193, 54, 5, 44, 42, 21, 4, 4, 96, 46, 42, 21, 4, 5, 96, 46, 42, 21, 4, 6, 96, 46]
abbrev dktL_law_36 : List UInt8 := dkwL_law_36 ++ dktL_law_37
def dkwL_law_35 : List UInt8 := [167, 8, 118, 43, 42, 21, 4, 4, 96, 46, 42, 21, 4, 5, 96, 46, 42, 21, 4, 6, 96, 46, 45]
abbrev dktL_law_35 : List UInt8 := dkwL_law_35 ++ dktL_law_36
def dkwL_law_34 : List UInt8 := [21, 5, 159, 0, 5, 3, 172, 21, 5, 154, 0, 15, 45, 3, 47, 21, 6, 133, 148, 153, 0, 5, 3, 172]
abbrev dktL_law_34 : List UInt8 := dkwL_law_34 ++ dktL_law_35
def dkwL_law_33 : List UInt8 := [4, 96, 46, 42, 21, 4, 5, 96, 46, 42, 21, 4, 6, 96, 46, 182, 0, 192, 54, 6, 44, 182, 0, 159]
abbrev dktL_law_33 : List UInt8 := dkwL_law_33 ++ dktL_law_34
def dkwL_law_32 : List UInt8 := [96, 46, 42, 21, 4, 5, 96, 46, 42, 21, 4, 6, 96, 46, 45, 184, 0, 190, 54, 5, 44, 42, 21, 4]
abbrev dktL_law_32 : List UInt8 := dkwL_law_32 ++ dktL_law_33
def dkwL_law_31 : List UInt8 := [21, 6, 153, 0, 7, 10, 167, 0, 4, 9, 148, 153, 0, 5, 3, 172, 167, 8, 198, 43, 42, 21, 4, 4]
abbrev dktL_law_31 : List UInt8 := dkwL_law_31 ++ dktL_law_32
def dkwL_law_30 : List UInt8 := [182, 0, 189, 54, 6, 44, 182, 0, 159, 21, 5, 159, 0, 5, 3, 172, 21, 5, 154, 0, 22, 45, 3, 47]
abbrev dktL_law_30 : List UInt8 := dkwL_law_30 ++ dktL_law_31
def dkwL_law_29 : List UInt8 := [184, 0, 187, 54, 5, 44, 42, 21, 4, 4, 96, 46, 42, 21, 4, 5, 96, 46, 42, 21, 4, 6, 96, 46]
abbrev dktL_law_29 : List UInt8 := dkwL_law_29 ++ dktL_law_30
def dkwL_law_28 : List UInt8 := [167, 9, 29, 43, 42, 21, 4, 4, 96, 46, 42, 21, 4, 5, 96, 46, 42, 21, 4, 6, 96, 46, 45]
abbrev dktL_law_28 : List UInt8 := dkwL_law_28 ++ dktL_law_29
def dkwL_law_27 : List UInt8 := [154, 0, 22, 45, 3, 47, 21, 6, 153, 0, 7, 10, 167, 0, 4, 9, 148, 153, 0, 5, 3, 172]
abbrev dktL_law_27 : List UInt8 := dkwL_law_27 ++ dktL_law_28
def dkwL_law_26 : List UInt8 := [21, 4, 6, 96, 46, 182, 0, 186, 54, 6, 44, 182, 0, 159, 21, 5, 159, 0, 5, 3, 172, 21, 5]
abbrev dktL_law_26 : List UInt8 := dkwL_law_26 ++ dktL_law_27
def dkwL_law_25 : List UInt8 := [6, 96, 46, 45, 184, 0, 183, 54, 5, 44, 42, 21, 4, 4, 96, 46, 42, 21, 4, 5, 96, 46, 42]
abbrev dktL_law_25 : List UInt8 := dkwL_law_25 ++ dktL_law_26
def dkwL_law_24 : List UInt8 := [153, 0, 5, 3, 172, 167, 9, 116, 43, 42, 21, 4, 4, 96, 46, 42, 21, 4, 5, 96, 46, 42, 21, 4]
abbrev dktL_law_24 : List UInt8 := dkwL_law_24 ++ dktL_law_25
def dkwL_law_23 : List UInt8 := [182, 0, 159, 21, 5, 159, 0, 5, 3, 172, 21, 5, 154, 0, 15, 45, 3, 47, 21, 6, 133, 148]
abbrev dktL_law_23 : List UInt8 := dkwL_law_23 ++ dktL_law_24
def dkwL_law_22 : List UInt8 := [184, 0, 180, 54, 5, 44, 42, 21, 4, 4, 96, 46, 42, 21, 4, 5, 96, 46, 182, 0, 182, 54, 6, 44]
abbrev dktL_law_22 : List UInt8 := dkwL_law_22 ++ dktL_law_23
def dkwL_law_21 : List UInt8 := [148, 153, 0, 5, 3, 172, 167, 9, 184, 43, 42, 21, 4, 4, 96, 46, 42, 21, 4, 5, 96, 46, 45]
abbrev dktL_law_21 : List UInt8 := dkwL_law_21 ++ dktL_law_22
def dkwL_law_20 : List UInt8 := [54, 6, 44, 182, 0, 159, 21, 5, 159, 0, 5, 3, 172, 21, 5, 154, 0, 15, 45, 3, 47, 21, 6, 133]
abbrev dktL_law_20 : List UInt8 := dkwL_law_20 ++ dktL_law_21
def dkwL_law_19 : List UInt8 := [42, 21, 4, 5, 96, 46, 42, 21, 4, 6, 96, 46, 153, 0, 7, 4, 167, 0, 4, 3, 182, 0, 179]
abbrev dktL_law_19 : List UInt8 := dkwL_law_19 ++ dktL_law_20
def dkwL_law_18 : List UInt8 := [6, 96, 46, 153, 0, 7, 4, 167, 0, 4, 3, 45, 184, 0, 176, 54, 5, 44, 42, 21, 4, 4, 96, 46]
abbrev dktL_law_18 : List UInt8 := dkwL_law_18 ++ dktL_law_19
def dkwL_law_17 : List UInt8 := [153, 0, 5, 3, 172, 167, 10, 24, 43, 42, 21, 4, 4, 96, 46, 42, 21, 4, 5, 96, 46, 42, 21, 4]
abbrev dktL_law_17 : List UInt8 := dkwL_law_17 ++ dktL_law_18
def dkwL_law_16 : List UInt8 := [182, 0, 159, 21, 5, 159, 0, 5, 3, 172, 21, 5, 154, 0, 15, 45, 3, 47, 21, 6, 133, 148]
abbrev dktL_law_16 : List UInt8 := dkwL_law_16 ++ dktL_law_17
def dkwL_law_15 : List UInt8 := [184, 0, 173, 54, 5, 44, 42, 21, 4, 4, 96, 46, 42, 21, 4, 5, 96, 46, 182, 0, 175, 54, 6, 44]
abbrev dktL_law_15 : List UInt8 := dkwL_law_15 ++ dktL_law_16
def dkwL_law_14 : List UInt8 := [153, 0, 5, 3, 172, 167, 10, 92, 43, 42, 21, 4, 4, 96, 46, 42, 21, 4, 5, 96, 46, 45]
abbrev dktL_law_14 : List UInt8 := dkwL_law_14 ++ dktL_law_15
def dkwL_law_13 : List UInt8 := [182, 0, 159, 21, 5, 159, 0, 5, 3, 172, 21, 5, 154, 0, 15, 45, 3, 47, 21, 6, 133, 148]
abbrev dktL_law_13 : List UInt8 := dkwL_law_13 ++ dktL_law_14
def dkwL_law_12 : List UInt8 := [184, 0, 169, 54, 5, 44, 42, 21, 4, 4, 96, 46, 42, 21, 4, 5, 96, 46, 182, 0, 172, 54, 6, 44]
abbrev dktL_law_12 : List UInt8 := dkwL_law_12 ++ dktL_law_13
def dkwL_law_11 : List UInt8 := [182, 0, 168, 159, 10, 162, 3, 172, 43, 42, 21, 4, 4, 96, 46, 42, 21, 4, 5, 96, 46, 45]
abbrev dktL_law_11 : List UInt8 := dkwL_law_11 ++ dktL_law_12
def dkwL_law_10 : List UInt8 := [154, 0, 15, 45, 3, 47, 21, 6, 133, 148, 153, 0, 5, 3, 172, 167, 10, 173, 43, 182, 0, 165, 44]
abbrev dktL_law_10 : List UInt8 := dkwL_law_10 ++ dktL_law_11
def dkwL_law_9 : List UInt8 := [184, 0, 162, 54, 5, 44, 182, 0, 164, 54, 6, 44, 182, 0, 159, 21, 5, 159, 0, 5, 3, 172, 21, 5]
abbrev dktL_law_9 : List UInt8 := dkwL_law_9 ++ dktL_law_10
def dkwL_law_8 : List UInt8 := [3, 172, 21, 5, 154, 0, 15, 45, 3, 47, 21, 6, 133, 148, 153, 0, 5, 3, 172, 167, 10, 217, 43, 45]
abbrev dktL_law_8 : List UInt8 := dkwL_law_8 ++ dktL_law_9
def dkwL_law_7 : List UInt8 := [3, 172, 43, 45, 184, 0, 153, 54, 5, 44, 182, 0, 158, 54, 6, 44, 182, 0, 159, 21, 5, 159, 0, 5]
abbrev dktL_law_7 : List UInt8 := dkwL_law_7 ++ dktL_law_8
def dkwL_law_6 : List UInt8 := [172, 43, 42, 21, 4, 4, 96, 46, 182, 0, 148, 44, 42, 21, 4, 4, 96, 46, 182, 0, 152, 159, 11, 7]
abbrev dktL_law_6 : List UInt8 := dkwL_law_6 ++ dktL_law_7
def dkwL_law_5 : List UInt8 := [21, 4, 6, 96, 46, 42, 21, 4, 7, 96, 46, 42, 21, 4, 8, 96, 46, 182, 0, 147, 159, 11, 32, 3]
abbrev dktL_law_5 : List UInt8 := dkwL_law_5 ++ dktL_law_6
def dkwL_law_4 : List UInt8 := [46, 42, 21, 4, 8, 96, 46, 182, 0, 143, 44, 42, 21, 4, 4, 96, 46, 42, 21, 4, 5, 96, 46, 42]
abbrev dktL_law_4 : List UInt8 := dkwL_law_4 ++ dktL_law_5
def dkwL_law_3 : List UInt8 := [43, 42, 21, 4, 4, 96, 46, 42, 21, 4, 5, 96, 46, 42, 21, 4, 6, 96, 46, 42, 21, 4, 7, 96]
abbrev dktL_law_3 : List UInt8 := dkwL_law_3 ++ dktL_law_4
def dkwL_law_2 : List UInt8 := [170, 0, 0, 0, 0, 0, 12, 72, 0, 0, 0, 0, 0, 0, 0, 52, 0, 0, 0, 228, 0, 0, 1, 45, 0, 0, 1, 70, 0, 0, 1, 114, 0, 0, 1, 158, 0, 0, 1, 171, 0, 0, 1, 239, 0, 0, 2, 51, 0, 0, 2, 147, 0, 0, 2, 215, 0, 0, 3, 46, 0, 0, 3, 133, 0, 0, 3, 213, 0, 0, 4, 37, 0, 0, 4, 105, 0, 0, 4, 185, 0, 0, 4, 253, 0, 0, 5, 65, 0, 0, 5, 173, 0, 0, 5, 229, 0, 0, 6, 14, 0, 0, 6, 27, 0, 0, 6, 40, 0, 0, 6, 96, 0, 0, 6, 152, 0, 0, 6, 165, 0, 0, 6, 209, 0, 0, 7, 49, 0, 0, 7, 117, 0, 0, 7, 189, 0, 0, 7, 233, 0, 0, 8, 49, 0, 0, 8, 62, 0, 0, 8, 130, 0, 0, 8, 186, 0, 0, 8, 254, 0, 0, 9, 66, 0, 0, 9, 134, 0, 0, 9, 202, 0, 0, 9, 215, 0, 0, 9, 228, 0, 0, 9, 241, 0, 0, 10, 41, 0, 0, 10, 97, 0, 0, 10, 177, 0, 0, 11, 5, 0, 0, 11, 89, 0, 0, 11, 173, 0, 0, 11, 241, 0, 0, 12, 10, 0, 0, 12, 23, 0, 0, 12, 34, 0, 0, 12, 47]
abbrev dktL_law_2 : List UInt8 := dkwL_law_2 ++ dktL_law_3
def dkwL_law_1 : List UInt8 := [21, 4, 42, 190, 16, 6, 100, 163, 12, 88, 42, 21, 4, 46, 16, 63, 126]
abbrev dktL_law_1 : List UInt8 := dkwL_law_1 ++ dktL_law_2
def dkwL_law_0 : List UInt8 := [187, 0, 8, 89, 183, 0, 139, 76, 187, 0, 140, 89, 183, 0, 142, 77, 4, 188, 11, 78, 3, 54, 4]
abbrev dktL_law_0 : List UInt8 := dkwL_law_0 ++ dktL_law_1
theorem dksL_law_0 : cL_law.data.toList.drop 0 = dktL_law_0 := by decide +kernel
theorem dksL_law_1 : cL_law.data.toList.drop 23 = dktL_law_1 := dk_seg dksL_law_0 23 rfl rfl
theorem dksL_law_2 : cL_law.data.toList.drop 40 = dktL_law_2 := dk_seg dksL_law_1 17 rfl rfl
theorem dksL_law_3 : cL_law.data.toList.drop 268 = dktL_law_3 := dk_seg dksL_law_2 228 rfl rfl
theorem dksL_law_4 : cL_law.data.toList.drop 292 = dktL_law_4 := dk_seg dksL_law_3 24 rfl rfl
theorem dksL_law_5 : cL_law.data.toList.drop 316 = dktL_law_5 := dk_seg dksL_law_4 24 rfl rfl
theorem dksL_law_6 : cL_law.data.toList.drop 340 = dktL_law_6 := dk_seg dksL_law_5 24 rfl rfl
theorem dksL_law_7 : cL_law.data.toList.drop 364 = dktL_law_7 := dk_seg dksL_law_6 24 rfl rfl
theorem dksL_law_8 : cL_law.data.toList.drop 388 = dktL_law_8 := dk_seg dksL_law_7 24 rfl rfl
theorem dksL_law_9 : cL_law.data.toList.drop 412 = dktL_law_9 := dk_seg dksL_law_8 24 rfl rfl
theorem dksL_law_10 : cL_law.data.toList.drop 436 = dktL_law_10 := dk_seg dksL_law_9 24 rfl rfl
theorem dksL_law_11 : cL_law.data.toList.drop 459 = dktL_law_11 := dk_seg dksL_law_10 23 rfl rfl
theorem dksL_law_12 : cL_law.data.toList.drop 481 = dktL_law_12 := dk_seg dksL_law_11 22 rfl rfl
theorem dksL_law_13 : cL_law.data.toList.drop 505 = dktL_law_13 := dk_seg dksL_law_12 24 rfl rfl
theorem dksL_law_14 : cL_law.data.toList.drop 527 = dktL_law_14 := dk_seg dksL_law_13 22 rfl rfl
theorem dksL_law_15 : cL_law.data.toList.drop 549 = dktL_law_15 := dk_seg dksL_law_14 22 rfl rfl
theorem dksL_law_16 : cL_law.data.toList.drop 573 = dktL_law_16 := dk_seg dksL_law_15 24 rfl rfl
theorem dksL_law_17 : cL_law.data.toList.drop 595 = dktL_law_17 := dk_seg dksL_law_16 22 rfl rfl
theorem dksL_law_18 : cL_law.data.toList.drop 619 = dktL_law_18 := dk_seg dksL_law_17 24 rfl rfl
theorem dksL_law_19 : cL_law.data.toList.drop 643 = dktL_law_19 := dk_seg dksL_law_18 24 rfl rfl
theorem dksL_law_20 : cL_law.data.toList.drop 666 = dktL_law_20 := dk_seg dksL_law_19 23 rfl rfl
theorem dksL_law_21 : cL_law.data.toList.drop 690 = dktL_law_21 := dk_seg dksL_law_20 24 rfl rfl
theorem dksL_law_22 : cL_law.data.toList.drop 713 = dktL_law_22 := dk_seg dksL_law_21 23 rfl rfl
theorem dksL_law_23 : cL_law.data.toList.drop 737 = dktL_law_23 := dk_seg dksL_law_22 24 rfl rfl
theorem dksL_law_24 : cL_law.data.toList.drop 759 = dktL_law_24 := dk_seg dksL_law_23 22 rfl rfl
theorem dksL_law_25 : cL_law.data.toList.drop 783 = dktL_law_25 := dk_seg dksL_law_24 24 rfl rfl
theorem dksL_law_26 : cL_law.data.toList.drop 806 = dktL_law_26 := dk_seg dksL_law_25 23 rfl rfl
theorem dksL_law_27 : cL_law.data.toList.drop 829 = dktL_law_27 := dk_seg dksL_law_26 23 rfl rfl
theorem dksL_law_28 : cL_law.data.toList.drop 851 = dktL_law_28 := dk_seg dksL_law_27 22 rfl rfl
theorem dksL_law_29 : cL_law.data.toList.drop 874 = dktL_law_29 := dk_seg dksL_law_28 23 rfl rfl
theorem dksL_law_30 : cL_law.data.toList.drop 898 = dktL_law_30 := dk_seg dksL_law_29 24 rfl rfl
theorem dksL_law_31 : cL_law.data.toList.drop 922 = dktL_law_31 := dk_seg dksL_law_30 24 rfl rfl
theorem dksL_law_32 : cL_law.data.toList.drop 946 = dktL_law_32 := dk_seg dksL_law_31 24 rfl rfl
theorem dksL_law_33 : cL_law.data.toList.drop 970 = dktL_law_33 := dk_seg dksL_law_32 24 rfl rfl
theorem dksL_law_34 : cL_law.data.toList.drop 994 = dktL_law_34 := dk_seg dksL_law_33 24 rfl rfl
theorem dksL_law_35 : cL_law.data.toList.drop 1018 = dktL_law_35 := dk_seg dksL_law_34 24 rfl rfl
theorem dksL_law_36 : cL_law.data.toList.drop 1041 = dktL_law_36 := dk_seg dksL_law_35 23 rfl rfl
theorem dksL_law_37 : cL_law.data.toList.drop 1065 = dktL_law_37 := dk_seg dksL_law_36 24 rfl rfl
theorem dksL_law_38 : cL_law.data.toList.drop 1089 = dktL_law_38 := dk_seg dksL_law_37 24 rfl rfl
theorem dksL_law_39 : cL_law.data.toList.drop 1113 = dktL_law_39 := dk_seg dksL_law_38 24 rfl rfl
theorem dksL_law_40 : cL_law.data.toList.drop 1136 = dktL_law_40 := dk_seg dksL_law_39 23 rfl rfl
theorem dksL_law_41 : cL_law.data.toList.drop 1160 = dktL_law_41 := dk_seg dksL_law_40 24 rfl rfl
theorem dksL_law_42 : cL_law.data.toList.drop 1183 = dktL_law_42 := dk_seg dksL_law_41 23 rfl rfl
theorem dksL_law_43 : cL_law.data.toList.drop 1207 = dktL_law_43 := dk_seg dksL_law_42 24 rfl rfl
theorem dksL_law_44 : cL_law.data.toList.drop 1231 = dktL_law_44 := dk_seg dksL_law_43 24 rfl rfl
theorem dksL_law_45 : cL_law.data.toList.drop 1255 = dktL_law_45 := dk_seg dksL_law_44 24 rfl rfl
theorem dksL_law_46 : cL_law.data.toList.drop 1279 = dktL_law_46 := dk_seg dksL_law_45 24 rfl rfl
theorem dksL_law_47 : cL_law.data.toList.drop 1303 = dktL_law_47 := dk_seg dksL_law_46 24 rfl rfl
theorem dksL_law_48 : cL_law.data.toList.drop 1327 = dktL_law_48 := dk_seg dksL_law_47 24 rfl rfl
theorem dksL_law_49 : cL_law.data.toList.drop 1349 = dktL_law_49 := dk_seg dksL_law_48 22 rfl rfl
theorem dksL_law_50 : cL_law.data.toList.drop 1373 = dktL_law_50 := dk_seg dksL_law_49 24 rfl rfl
theorem dksL_law_51 : cL_law.data.toList.drop 1397 = dktL_law_51 := dk_seg dksL_law_50 24 rfl rfl
theorem dksL_law_52 : cL_law.data.toList.drop 1419 = dktL_law_52 := dk_seg dksL_law_51 22 rfl rfl
theorem dksL_law_53 : cL_law.data.toList.drop 1443 = dktL_law_53 := dk_seg dksL_law_52 24 rfl rfl
theorem dksL_law_54 : cL_law.data.toList.drop 1466 = dktL_law_54 := dk_seg dksL_law_53 23 rfl rfl
theorem dksL_law_55 : cL_law.data.toList.drop 1490 = dktL_law_55 := dk_seg dksL_law_54 24 rfl rfl
theorem dksL_law_56 : cL_law.data.toList.drop 1513 = dktL_law_56 := dk_seg dksL_law_55 23 rfl rfl
theorem dksL_law_57 : cL_law.data.toList.drop 1537 = dktL_law_57 := dk_seg dksL_law_56 24 rfl rfl
theorem dksL_law_58 : cL_law.data.toList.drop 1560 = dktL_law_58 := dk_seg dksL_law_57 23 rfl rfl
theorem dksL_law_59 : cL_law.data.toList.drop 1582 = dktL_law_59 := dk_seg dksL_law_58 22 rfl rfl
theorem dksL_law_60 : cL_law.data.toList.drop 1604 = dktL_law_60 := dk_seg dksL_law_59 22 rfl rfl
theorem dksL_law_61 : cL_law.data.toList.drop 1627 = dktL_law_61 := dk_seg dksL_law_60 23 rfl rfl
theorem dksL_law_62 : cL_law.data.toList.drop 1651 = dktL_law_62 := dk_seg dksL_law_61 24 rfl rfl
theorem dksL_law_63 : cL_law.data.toList.drop 1674 = dktL_law_63 := dk_seg dksL_law_62 23 rfl rfl
theorem dksL_law_64 : cL_law.data.toList.drop 1698 = dktL_law_64 := dk_seg dksL_law_63 24 rfl rfl
theorem dksL_law_65 : cL_law.data.toList.drop 1720 = dktL_law_65 := dk_seg dksL_law_64 22 rfl rfl
theorem dksL_law_66 : cL_law.data.toList.drop 1743 = dktL_law_66 := dk_seg dksL_law_65 23 rfl rfl
theorem dksL_law_67 : cL_law.data.toList.drop 1767 = dktL_law_67 := dk_seg dksL_law_66 24 rfl rfl
theorem dksL_law_68 : cL_law.data.toList.drop 1791 = dktL_law_68 := dk_seg dksL_law_67 24 rfl rfl
theorem dksL_law_69 : cL_law.data.toList.drop 1813 = dktL_law_69 := dk_seg dksL_law_68 22 rfl rfl
theorem dksL_law_70 : cL_law.data.toList.drop 1837 = dktL_law_70 := dk_seg dksL_law_69 24 rfl rfl
theorem dksL_law_71 : cL_law.data.toList.drop 1861 = dktL_law_71 := dk_seg dksL_law_70 24 rfl rfl
theorem dksL_law_72 : cL_law.data.toList.drop 1885 = dktL_law_72 := dk_seg dksL_law_71 24 rfl rfl
theorem dksL_law_73 : cL_law.data.toList.drop 1908 = dktL_law_73 := dk_seg dksL_law_72 23 rfl rfl
theorem dksL_law_74 : cL_law.data.toList.drop 1931 = dktL_law_74 := dk_seg dksL_law_73 23 rfl rfl
theorem dksL_law_75 : cL_law.data.toList.drop 1955 = dktL_law_75 := dk_seg dksL_law_74 24 rfl rfl
theorem dksL_law_76 : cL_law.data.toList.drop 1977 = dktL_law_76 := dk_seg dksL_law_75 22 rfl rfl
theorem dksL_law_77 : cL_law.data.toList.drop 2001 = dktL_law_77 := dk_seg dksL_law_76 24 rfl rfl
theorem dksL_law_78 : cL_law.data.toList.drop 2023 = dktL_law_78 := dk_seg dksL_law_77 22 rfl rfl
theorem dksL_law_79 : cL_law.data.toList.drop 2047 = dktL_law_79 := dk_seg dksL_law_78 24 rfl rfl
theorem dksL_law_80 : cL_law.data.toList.drop 2071 = dktL_law_80 := dk_seg dksL_law_79 24 rfl rfl
theorem dksL_law_81 : cL_law.data.toList.drop 2093 = dktL_law_81 := dk_seg dksL_law_80 22 rfl rfl
theorem dksL_law_82 : cL_law.data.toList.drop 2117 = dktL_law_82 := dk_seg dksL_law_81 24 rfl rfl
theorem dksL_law_83 : cL_law.data.toList.drop 2141 = dktL_law_83 := dk_seg dksL_law_82 24 rfl rfl
theorem dksL_law_84 : cL_law.data.toList.drop 2164 = dktL_law_84 := dk_seg dksL_law_83 23 rfl rfl
theorem dksL_law_85 : cL_law.data.toList.drop 2188 = dktL_law_85 := dk_seg dksL_law_84 24 rfl rfl
theorem dksL_law_86 : cL_law.data.toList.drop 2210 = dktL_law_86 := dk_seg dksL_law_85 22 rfl rfl
theorem dksL_law_87 : cL_law.data.toList.drop 2233 = dktL_law_87 := dk_seg dksL_law_86 23 rfl rfl
theorem dksL_law_88 : cL_law.data.toList.drop 2256 = dktL_law_88 := dk_seg dksL_law_87 23 rfl rfl
theorem dksL_law_89 : cL_law.data.toList.drop 2280 = dktL_law_89 := dk_seg dksL_law_88 24 rfl rfl
theorem dksL_law_90 : cL_law.data.toList.drop 2304 = dktL_law_90 := dk_seg dksL_law_89 24 rfl rfl
theorem dksL_law_91 : cL_law.data.toList.drop 2328 = dktL_law_91 := dk_seg dksL_law_90 24 rfl rfl
theorem dksL_law_92 : cL_law.data.toList.drop 2352 = dktL_law_92 := dk_seg dksL_law_91 24 rfl rfl
theorem dksL_law_93 : cL_law.data.toList.drop 2374 = dktL_law_93 := dk_seg dksL_law_92 22 rfl rfl
theorem dksL_law_94 : cL_law.data.toList.drop 2398 = dktL_law_94 := dk_seg dksL_law_93 24 rfl rfl
theorem dksL_law_95 : cL_law.data.toList.drop 2422 = dktL_law_95 := dk_seg dksL_law_94 24 rfl rfl
theorem dksL_law_96 : cL_law.data.toList.drop 2445 = dktL_law_96 := dk_seg dksL_law_95 23 rfl rfl
theorem dksL_law_97 : cL_law.data.toList.drop 2469 = dktL_law_97 := dk_seg dksL_law_96 24 rfl rfl
theorem dksL_law_98 : cL_law.data.toList.drop 2492 = dktL_law_98 := dk_seg dksL_law_97 23 rfl rfl
theorem dksL_law_99 : cL_law.data.toList.drop 2516 = dktL_law_99 := dk_seg dksL_law_98 24 rfl rfl
theorem dksL_law_100 : cL_law.data.toList.drop 2538 = dktL_law_100 := dk_seg dksL_law_99 22 rfl rfl
theorem dksL_law_101 : cL_law.data.toList.drop 2560 = dktL_law_101 := dk_seg dksL_law_100 22 rfl rfl
theorem dksL_law_102 : cL_law.data.toList.drop 2584 = dktL_law_102 := dk_seg dksL_law_101 24 rfl rfl
theorem dksL_law_103 : cL_law.data.toList.drop 2608 = dktL_law_103 := dk_seg dksL_law_102 24 rfl rfl
theorem dksL_law_104 : cL_law.data.toList.drop 2632 = dktL_law_104 := dk_seg dksL_law_103 24 rfl rfl
theorem dksL_law_105 : cL_law.data.toList.drop 2656 = dktL_law_105 := dk_seg dksL_law_104 24 rfl rfl
theorem dksL_law_106 : cL_law.data.toList.drop 2679 = dktL_law_106 := dk_seg dksL_law_105 23 rfl rfl
theorem dksL_law_107 : cL_law.data.toList.drop 2703 = dktL_law_107 := dk_seg dksL_law_106 24 rfl rfl
theorem dksL_law_108 : cL_law.data.toList.drop 2727 = dktL_law_108 := dk_seg dksL_law_107 24 rfl rfl
theorem dksL_law_109 : cL_law.data.toList.drop 2750 = dktL_law_109 := dk_seg dksL_law_108 23 rfl rfl
theorem dksL_law_110 : cL_law.data.toList.drop 2774 = dktL_law_110 := dk_seg dksL_law_109 24 rfl rfl
theorem dksL_law_111 : cL_law.data.toList.drop 2798 = dktL_law_111 := dk_seg dksL_law_110 24 rfl rfl
theorem dksL_law_112 : cL_law.data.toList.drop 2821 = dktL_law_112 := dk_seg dksL_law_111 23 rfl rfl
theorem dksL_law_113 : cL_law.data.toList.drop 2843 = dktL_law_113 := dk_seg dksL_law_112 22 rfl rfl
theorem dksL_law_114 : cL_law.data.toList.drop 2867 = dktL_law_114 := dk_seg dksL_law_113 24 rfl rfl
theorem dksL_law_115 : cL_law.data.toList.drop 2890 = dktL_law_115 := dk_seg dksL_law_114 23 rfl rfl
theorem dksL_law_116 : cL_law.data.toList.drop 2914 = dktL_law_116 := dk_seg dksL_law_115 24 rfl rfl
theorem dksL_law_117 : cL_law.data.toList.drop 2937 = dktL_law_117 := dk_seg dksL_law_116 23 rfl rfl
theorem dksL_law_118 : cL_law.data.toList.drop 2961 = dktL_law_118 := dk_seg dksL_law_117 24 rfl rfl
theorem dksL_law_119 : cL_law.data.toList.drop 2985 = dktL_law_119 := dk_seg dksL_law_118 24 rfl rfl
theorem dksL_law_120 : cL_law.data.toList.drop 3009 = dktL_law_120 := dk_seg dksL_law_119 24 rfl rfl
theorem dksL_law_121 : cL_law.data.toList.drop 3033 = dktL_law_121 := dk_seg dksL_law_120 24 rfl rfl
theorem dksL_law_122 : cL_law.data.toList.drop 3056 = dktL_law_122 := dk_seg dksL_law_121 23 rfl rfl
theorem dksL_law_123 : cL_law.data.toList.drop 3079 = dktL_law_123 := dk_seg dksL_law_122 23 rfl rfl
theorem dksL_law_124 : cL_law.data.toList.drop 3103 = dktL_law_124 := dk_seg dksL_law_123 24 rfl rfl
theorem dksL_law_125 : cL_law.data.toList.drop 3127 = dktL_law_125 := dk_seg dksL_law_124 24 rfl rfl
theorem dksL_law_126 : cL_law.data.toList.drop 3151 = dktL_law_126 := dk_seg dksL_law_125 24 rfl rfl
theorem dksL_law_127 : cL_law.data.toList.drop 3175 = dktL_law_127 := dk_seg dksL_law_126 24 rfl rfl
theorem dL_law_0 : decode cL_law 0 = .ok (.new 8, 3) := dk_187 0 8 (dk_at dksL_law_0 0 rfl rfl)
theorem dL_law_3 : decode cL_law 3 = .ok (.dup, 1) := dk_89 (dk_at dksL_law_0 3 rfl rfl)
theorem dL_law_4 : decode cL_law 4 = .ok (.invokespecial 139, 3) := dk_183 0 139 (dk_at dksL_law_0 4 rfl rfl)
theorem dL_law_7 : decode cL_law 7 = .ok (.astore_n 1, 1) := dk_76 (dk_at dksL_law_0 7 rfl rfl)
theorem dL_law_8 : decode cL_law 8 = .ok (.new 140, 3) := dk_187 0 140 (dk_at dksL_law_0 8 rfl rfl)
theorem dL_law_11 : decode cL_law 11 = .ok (.dup, 1) := dk_89 (dk_at dksL_law_0 11 rfl rfl)
theorem dL_law_12 : decode cL_law 12 = .ok (.invokespecial 142, 3) := dk_183 0 142 (dk_at dksL_law_0 12 rfl rfl)
theorem dL_law_15 : decode cL_law 15 = .ok (.astore_n 2, 1) := dk_77 (dk_at dksL_law_0 15 rfl rfl)
theorem dL_law_16 : decode cL_law 16 = .ok (.iconst 1, 1) := dk_4 (dk_at dksL_law_0 16 rfl rfl)
theorem dL_law_17 : decode cL_law 17 = .ok (.newarray .long, 2) := dk_188_11 (dk_at dksL_law_0 17 rfl rfl)
theorem dL_law_19 : decode cL_law 19 = .ok (.astore_n 3, 1) := dk_78 (dk_at dksL_law_0 19 rfl rfl)
theorem dL_law_20 : decode cL_law 20 = .ok (.iconst 0, 1) := dk_3 (dk_at dksL_law_0 20 rfl rfl)
theorem dL_law_21 : decode cL_law 21 = .ok (.istore 4, 2) := dk_54 4 (dk_at dksL_law_0 21 rfl rfl)
theorem dL_law_23 : decode cL_law 23 = .ok (.iload 4, 2) := dk_21 4 (dk_at dksL_law_1 0 rfl rfl)
theorem dL_law_25 : decode cL_law 25 = .ok (.aload_n 0, 1) := dk_42 (dk_at dksL_law_1 2 rfl rfl)
theorem dL_law_26 : decode cL_law 26 = .ok (.arraylength, 1) := dk_190 (dk_at dksL_law_1 3 rfl rfl)
theorem dL_law_27 : decode cL_law 27 = .ok (.bipush 6, 2) := dk_16 6 (dk_at dksL_law_1 4 rfl rfl)
theorem dL_law_29 : decode cL_law 29 = .ok (.isub, 1) := dk_100 (dk_at dksL_law_1 6 rfl rfl)
theorem dL_law_30 : decode cL_law 30 = .ok (.if_icmp .gt 3160, 3) := dk_163 12 88 (dk_at dksL_law_1 7 rfl rfl)
theorem dL_law_33 : decode cL_law 33 = .ok (.aload_n 0, 1) := dk_42 (dk_at dksL_law_1 10 rfl rfl)
theorem dL_law_34 : decode cL_law 34 = .ok (.iload 4, 2) := dk_21 4 (dk_at dksL_law_1 11 rfl rfl)
theorem dL_law_36 : decode cL_law 36 = .ok (.iaload, 1) := dk_46 (dk_at dksL_law_1 13 rfl rfl)
theorem dL_law_37 : decode cL_law 37 = .ok (.bipush 63, 2) := dk_16 63 (dk_at dksL_law_1 14 rfl rfl)
theorem dL_law_39 : decode cL_law 39 = .ok (.iand, 1) := dk_126 (dk_at dksL_law_1 16 rfl rfl)
theorem dL_law_40 : decode cL_law 40 = .ok (.tableswitch 3144 0 52 #[228, 301, 326, 370, 414, 427, 495, 563, 659, 727, 814, 901, 981, 1061, 1129, 1209, 1277, 1345, 1453, 1509, 1550, 1563, 1576, 1632, 1688, 1701, 1745, 1841, 1909, 1981, 2025, 2097, 2110, 2178, 2234, 2302, 2370, 2438, 2506, 2519, 2532, 2545, 2601, 2657, 2737, 2821, 2905, 2989, 3057, 3082, 3095, 3106, 3119], 228) := by decide +kernel
theorem dL_law_268 : decode cL_law 268 = .ok (.aload_n 1, 1) := dk_43 (dk_at dksL_law_3 0 rfl rfl)
theorem dL_law_269 : decode cL_law 269 = .ok (.aload_n 0, 1) := dk_42 (dk_at dksL_law_3 1 rfl rfl)
theorem dL_law_270 : decode cL_law 270 = .ok (.iload 4, 2) := dk_21 4 (dk_at dksL_law_3 2 rfl rfl)
theorem dL_law_272 : decode cL_law 272 = .ok (.iconst 1, 1) := dk_4 (dk_at dksL_law_3 4 rfl rfl)
theorem dL_law_273 : decode cL_law 273 = .ok (.iadd, 1) := dk_96 (dk_at dksL_law_3 5 rfl rfl)
theorem dL_law_274 : decode cL_law 274 = .ok (.iaload, 1) := dk_46 (dk_at dksL_law_3 6 rfl rfl)
theorem dL_law_275 : decode cL_law 275 = .ok (.aload_n 0, 1) := dk_42 (dk_at dksL_law_3 7 rfl rfl)
theorem dL_law_276 : decode cL_law 276 = .ok (.iload 4, 2) := dk_21 4 (dk_at dksL_law_3 8 rfl rfl)
theorem dL_law_278 : decode cL_law 278 = .ok (.iconst 2, 1) := dk_5 (dk_at dksL_law_3 10 rfl rfl)
theorem dL_law_279 : decode cL_law 279 = .ok (.iadd, 1) := dk_96 (dk_at dksL_law_3 11 rfl rfl)
theorem dL_law_280 : decode cL_law 280 = .ok (.iaload, 1) := dk_46 (dk_at dksL_law_3 12 rfl rfl)
theorem dL_law_281 : decode cL_law 281 = .ok (.aload_n 0, 1) := dk_42 (dk_at dksL_law_3 13 rfl rfl)
theorem dL_law_282 : decode cL_law 282 = .ok (.iload 4, 2) := dk_21 4 (dk_at dksL_law_3 14 rfl rfl)
theorem dL_law_284 : decode cL_law 284 = .ok (.iconst 3, 1) := dk_6 (dk_at dksL_law_3 16 rfl rfl)
theorem dL_law_285 : decode cL_law 285 = .ok (.iadd, 1) := dk_96 (dk_at dksL_law_3 17 rfl rfl)
theorem dL_law_286 : decode cL_law 286 = .ok (.iaload, 1) := dk_46 (dk_at dksL_law_3 18 rfl rfl)
theorem dL_law_287 : decode cL_law 287 = .ok (.aload_n 0, 1) := dk_42 (dk_at dksL_law_3 19 rfl rfl)
theorem dL_law_288 : decode cL_law 288 = .ok (.iload 4, 2) := dk_21 4 (dk_at dksL_law_3 20 rfl rfl)
theorem dL_law_290 : decode cL_law 290 = .ok (.iconst 4, 1) := dk_7 (dk_at dksL_law_3 22 rfl rfl)
theorem dL_law_291 : decode cL_law 291 = .ok (.iadd, 1) := dk_96 (dk_at dksL_law_3 23 rfl rfl)
theorem dL_law_292 : decode cL_law 292 = .ok (.iaload, 1) := dk_46 (dk_at dksL_law_4 0 rfl rfl)
theorem dL_law_293 : decode cL_law 293 = .ok (.aload_n 0, 1) := dk_42 (dk_at dksL_law_4 1 rfl rfl)
theorem dL_law_294 : decode cL_law 294 = .ok (.iload 4, 2) := dk_21 4 (dk_at dksL_law_4 2 rfl rfl)
theorem dL_law_296 : decode cL_law 296 = .ok (.iconst 5, 1) := dk_8 (dk_at dksL_law_4 4 rfl rfl)
theorem dL_law_297 : decode cL_law 297 = .ok (.iadd, 1) := dk_96 (dk_at dksL_law_4 5 rfl rfl)
theorem dL_law_298 : decode cL_law 298 = .ok (.iaload, 1) := dk_46 (dk_at dksL_law_4 6 rfl rfl)
theorem dL_law_299 : decode cL_law 299 = .ok (.invokevirtual 143, 3) := dk_182 0 143 (dk_at dksL_law_4 7 rfl rfl)
theorem dL_law_302 : decode cL_law 302 = .ok (.aload_n 2, 1) := dk_44 (dk_at dksL_law_4 10 rfl rfl)
theorem dL_law_303 : decode cL_law 303 = .ok (.aload_n 0, 1) := dk_42 (dk_at dksL_law_4 11 rfl rfl)
theorem dL_law_304 : decode cL_law 304 = .ok (.iload 4, 2) := dk_21 4 (dk_at dksL_law_4 12 rfl rfl)
theorem dL_law_306 : decode cL_law 306 = .ok (.iconst 1, 1) := dk_4 (dk_at dksL_law_4 14 rfl rfl)
theorem dL_law_307 : decode cL_law 307 = .ok (.iadd, 1) := dk_96 (dk_at dksL_law_4 15 rfl rfl)
theorem dL_law_308 : decode cL_law 308 = .ok (.iaload, 1) := dk_46 (dk_at dksL_law_4 16 rfl rfl)
theorem dL_law_309 : decode cL_law 309 = .ok (.aload_n 0, 1) := dk_42 (dk_at dksL_law_4 17 rfl rfl)
theorem dL_law_310 : decode cL_law 310 = .ok (.iload 4, 2) := dk_21 4 (dk_at dksL_law_4 18 rfl rfl)
theorem dL_law_312 : decode cL_law 312 = .ok (.iconst 2, 1) := dk_5 (dk_at dksL_law_4 20 rfl rfl)
theorem dL_law_313 : decode cL_law 313 = .ok (.iadd, 1) := dk_96 (dk_at dksL_law_4 21 rfl rfl)
theorem dL_law_314 : decode cL_law 314 = .ok (.iaload, 1) := dk_46 (dk_at dksL_law_4 22 rfl rfl)
theorem dL_law_315 : decode cL_law 315 = .ok (.aload_n 0, 1) := dk_42 (dk_at dksL_law_4 23 rfl rfl)
theorem dL_law_316 : decode cL_law 316 = .ok (.iload 4, 2) := dk_21 4 (dk_at dksL_law_5 0 rfl rfl)
theorem dL_law_318 : decode cL_law 318 = .ok (.iconst 3, 1) := dk_6 (dk_at dksL_law_5 2 rfl rfl)
theorem dL_law_319 : decode cL_law 319 = .ok (.iadd, 1) := dk_96 (dk_at dksL_law_5 3 rfl rfl)
theorem dL_law_320 : decode cL_law 320 = .ok (.iaload, 1) := dk_46 (dk_at dksL_law_5 4 rfl rfl)
theorem dL_law_321 : decode cL_law 321 = .ok (.aload_n 0, 1) := dk_42 (dk_at dksL_law_5 5 rfl rfl)
theorem dL_law_322 : decode cL_law 322 = .ok (.iload 4, 2) := dk_21 4 (dk_at dksL_law_5 6 rfl rfl)
theorem dL_law_324 : decode cL_law 324 = .ok (.iconst 4, 1) := dk_7 (dk_at dksL_law_5 8 rfl rfl)
theorem dL_law_325 : decode cL_law 325 = .ok (.iadd, 1) := dk_96 (dk_at dksL_law_5 9 rfl rfl)
theorem dL_law_326 : decode cL_law 326 = .ok (.iaload, 1) := dk_46 (dk_at dksL_law_5 10 rfl rfl)
theorem dL_law_327 : decode cL_law 327 = .ok (.aload_n 0, 1) := dk_42 (dk_at dksL_law_5 11 rfl rfl)
theorem dL_law_328 : decode cL_law 328 = .ok (.iload 4, 2) := dk_21 4 (dk_at dksL_law_5 12 rfl rfl)
theorem dL_law_330 : decode cL_law 330 = .ok (.iconst 5, 1) := dk_8 (dk_at dksL_law_5 14 rfl rfl)
theorem dL_law_331 : decode cL_law 331 = .ok (.iadd, 1) := dk_96 (dk_at dksL_law_5 15 rfl rfl)
theorem dL_law_332 : decode cL_law 332 = .ok (.iaload, 1) := dk_46 (dk_at dksL_law_5 16 rfl rfl)
theorem dL_law_333 : decode cL_law 333 = .ok (.invokevirtual 147, 3) := dk_182 0 147 (dk_at dksL_law_5 17 rfl rfl)
theorem dL_law_336 : decode cL_law 336 = .ok (.if_icmp .eq 2848, 3) := dk_159 11 32 (dk_at dksL_law_5 20 rfl rfl)
theorem dL_law_339 : decode cL_law 339 = .ok (.iconst 0, 1) := dk_3 (dk_at dksL_law_5 23 rfl rfl)
theorem dL_law_340 : decode cL_law 340 = .ok (.ireturn, 1) := dk_172 (dk_at dksL_law_6 0 rfl rfl)
theorem dL_law_341 : decode cL_law 341 = .ok (.aload_n 1, 1) := dk_43 (dk_at dksL_law_6 1 rfl rfl)
theorem dL_law_342 : decode cL_law 342 = .ok (.aload_n 0, 1) := dk_42 (dk_at dksL_law_6 2 rfl rfl)
theorem dL_law_343 : decode cL_law 343 = .ok (.iload 4, 2) := dk_21 4 (dk_at dksL_law_6 3 rfl rfl)
theorem dL_law_345 : decode cL_law 345 = .ok (.iconst 1, 1) := dk_4 (dk_at dksL_law_6 5 rfl rfl)
theorem dL_law_346 : decode cL_law 346 = .ok (.iadd, 1) := dk_96 (dk_at dksL_law_6 6 rfl rfl)
theorem dL_law_347 : decode cL_law 347 = .ok (.iaload, 1) := dk_46 (dk_at dksL_law_6 7 rfl rfl)
theorem dL_law_348 : decode cL_law 348 = .ok (.invokevirtual 148, 3) := dk_182 0 148 (dk_at dksL_law_6 8 rfl rfl)
theorem dL_law_351 : decode cL_law 351 = .ok (.aload_n 2, 1) := dk_44 (dk_at dksL_law_6 11 rfl rfl)
theorem dL_law_352 : decode cL_law 352 = .ok (.aload_n 0, 1) := dk_42 (dk_at dksL_law_6 12 rfl rfl)
theorem dL_law_353 : decode cL_law 353 = .ok (.iload 4, 2) := dk_21 4 (dk_at dksL_law_6 13 rfl rfl)
theorem dL_law_355 : decode cL_law 355 = .ok (.iconst 1, 1) := dk_4 (dk_at dksL_law_6 15 rfl rfl)
theorem dL_law_356 : decode cL_law 356 = .ok (.iadd, 1) := dk_96 (dk_at dksL_law_6 16 rfl rfl)
theorem dL_law_357 : decode cL_law 357 = .ok (.iaload, 1) := dk_46 (dk_at dksL_law_6 17 rfl rfl)
theorem dL_law_358 : decode cL_law 358 = .ok (.invokevirtual 152, 3) := dk_182 0 152 (dk_at dksL_law_6 18 rfl rfl)
theorem dL_law_361 : decode cL_law 361 = .ok (.if_icmp .eq 2823, 3) := dk_159 11 7 (dk_at dksL_law_6 21 rfl rfl)
theorem dL_law_364 : decode cL_law 364 = .ok (.iconst 0, 1) := dk_3 (dk_at dksL_law_7 0 rfl rfl)
theorem dL_law_365 : decode cL_law 365 = .ok (.ireturn, 1) := dk_172 (dk_at dksL_law_7 1 rfl rfl)
theorem dL_law_366 : decode cL_law 366 = .ok (.aload_n 1, 1) := dk_43 (dk_at dksL_law_7 2 rfl rfl)
theorem dL_law_367 : decode cL_law 367 = .ok (.aload_n 3, 1) := dk_45 (dk_at dksL_law_7 3 rfl rfl)
theorem dL_law_368 : decode cL_law 368 = .ok (.invokestatic 153, 3) := dk_184 0 153 (dk_at dksL_law_7 4 rfl rfl)
theorem dL_law_371 : decode cL_law 371 = .ok (.istore 5, 2) := dk_54 5 (dk_at dksL_law_7 7 rfl rfl)
theorem dL_law_373 : decode cL_law 373 = .ok (.aload_n 2, 1) := dk_44 (dk_at dksL_law_7 9 rfl rfl)
theorem dL_law_374 : decode cL_law 374 = .ok (.invokevirtual 158, 3) := dk_182 0 158 (dk_at dksL_law_7 10 rfl rfl)
theorem dL_law_377 : decode cL_law 377 = .ok (.istore 6, 2) := dk_54 6 (dk_at dksL_law_7 13 rfl rfl)
theorem dL_law_379 : decode cL_law 379 = .ok (.aload_n 2, 1) := dk_44 (dk_at dksL_law_7 15 rfl rfl)
theorem dL_law_380 : decode cL_law 380 = .ok (.invokevirtual 159, 3) := dk_182 0 159 (dk_at dksL_law_7 16 rfl rfl)
theorem dL_law_383 : decode cL_law 383 = .ok (.iload 5, 2) := dk_21 5 (dk_at dksL_law_7 19 rfl rfl)
theorem dL_law_385 : decode cL_law 385 = .ok (.if_icmp .eq 5, 3) := dk_159 0 5 (dk_at dksL_law_7 21 rfl rfl)
theorem dL_law_388 : decode cL_law 388 = .ok (.iconst 0, 1) := dk_3 (dk_at dksL_law_8 0 rfl rfl)
theorem dL_law_389 : decode cL_law 389 = .ok (.ireturn, 1) := dk_172 (dk_at dksL_law_8 1 rfl rfl)
theorem dL_law_390 : decode cL_law 390 = .ok (.iload 5, 2) := dk_21 5 (dk_at dksL_law_8 2 rfl rfl)
theorem dL_law_392 : decode cL_law 392 = .ok (.ifCond .ne 15, 3) := dk_154 0 15 (dk_at dksL_law_8 4 rfl rfl)
theorem dL_law_395 : decode cL_law 395 = .ok (.aload_n 3, 1) := dk_45 (dk_at dksL_law_8 7 rfl rfl)
theorem dL_law_396 : decode cL_law 396 = .ok (.iconst 0, 1) := dk_3 (dk_at dksL_law_8 8 rfl rfl)
theorem dL_law_397 : decode cL_law 397 = .ok (.laload, 1) := dk_47 (dk_at dksL_law_8 9 rfl rfl)
theorem dL_law_398 : decode cL_law 398 = .ok (.iload 6, 2) := dk_21 6 (dk_at dksL_law_8 10 rfl rfl)
theorem dL_law_400 : decode cL_law 400 = .ok (.i2l, 1) := dk_133 (dk_at dksL_law_8 12 rfl rfl)
theorem dL_law_401 : decode cL_law 401 = .ok (.lcmp, 1) := dk_148 (dk_at dksL_law_8 13 rfl rfl)
theorem dL_law_402 : decode cL_law 402 = .ok (.ifCond .eq 5, 3) := dk_153 0 5 (dk_at dksL_law_8 14 rfl rfl)
theorem dL_law_405 : decode cL_law 405 = .ok (.iconst 0, 1) := dk_3 (dk_at dksL_law_8 17 rfl rfl)
theorem dL_law_406 : decode cL_law 406 = .ok (.ireturn, 1) := dk_172 (dk_at dksL_law_8 18 rfl rfl)
theorem dL_law_407 : decode cL_law 407 = .ok (.goto 2777, 3) := dk_167 10 217 (dk_at dksL_law_8 19 rfl rfl)
theorem dL_law_410 : decode cL_law 410 = .ok (.aload_n 1, 1) := dk_43 (dk_at dksL_law_8 22 rfl rfl)
theorem dL_law_411 : decode cL_law 411 = .ok (.aload_n 3, 1) := dk_45 (dk_at dksL_law_8 23 rfl rfl)
theorem dL_law_412 : decode cL_law 412 = .ok (.invokestatic 162, 3) := dk_184 0 162 (dk_at dksL_law_9 0 rfl rfl)
theorem dL_law_415 : decode cL_law 415 = .ok (.istore 5, 2) := dk_54 5 (dk_at dksL_law_9 3 rfl rfl)
theorem dL_law_417 : decode cL_law 417 = .ok (.aload_n 2, 1) := dk_44 (dk_at dksL_law_9 5 rfl rfl)
theorem dL_law_418 : decode cL_law 418 = .ok (.invokevirtual 164, 3) := dk_182 0 164 (dk_at dksL_law_9 6 rfl rfl)
theorem dL_law_421 : decode cL_law 421 = .ok (.istore 6, 2) := dk_54 6 (dk_at dksL_law_9 9 rfl rfl)
theorem dL_law_423 : decode cL_law 423 = .ok (.aload_n 2, 1) := dk_44 (dk_at dksL_law_9 11 rfl rfl)
theorem dL_law_424 : decode cL_law 424 = .ok (.invokevirtual 159, 3) := dk_182 0 159 (dk_at dksL_law_9 12 rfl rfl)
theorem dL_law_427 : decode cL_law 427 = .ok (.iload 5, 2) := dk_21 5 (dk_at dksL_law_9 15 rfl rfl)
theorem dL_law_429 : decode cL_law 429 = .ok (.if_icmp .eq 5, 3) := dk_159 0 5 (dk_at dksL_law_9 17 rfl rfl)
theorem dL_law_432 : decode cL_law 432 = .ok (.iconst 0, 1) := dk_3 (dk_at dksL_law_9 20 rfl rfl)
theorem dL_law_433 : decode cL_law 433 = .ok (.ireturn, 1) := dk_172 (dk_at dksL_law_9 21 rfl rfl)
theorem dL_law_434 : decode cL_law 434 = .ok (.iload 5, 2) := dk_21 5 (dk_at dksL_law_9 22 rfl rfl)
theorem dL_law_436 : decode cL_law 436 = .ok (.ifCond .ne 15, 3) := dk_154 0 15 (dk_at dksL_law_10 0 rfl rfl)
theorem dL_law_439 : decode cL_law 439 = .ok (.aload_n 3, 1) := dk_45 (dk_at dksL_law_10 3 rfl rfl)
theorem dL_law_440 : decode cL_law 440 = .ok (.iconst 0, 1) := dk_3 (dk_at dksL_law_10 4 rfl rfl)
theorem dL_law_441 : decode cL_law 441 = .ok (.laload, 1) := dk_47 (dk_at dksL_law_10 5 rfl rfl)
theorem dL_law_442 : decode cL_law 442 = .ok (.iload 6, 2) := dk_21 6 (dk_at dksL_law_10 6 rfl rfl)
theorem dL_law_444 : decode cL_law 444 = .ok (.i2l, 1) := dk_133 (dk_at dksL_law_10 8 rfl rfl)
theorem dL_law_445 : decode cL_law 445 = .ok (.lcmp, 1) := dk_148 (dk_at dksL_law_10 9 rfl rfl)
theorem dL_law_446 : decode cL_law 446 = .ok (.ifCond .eq 5, 3) := dk_153 0 5 (dk_at dksL_law_10 10 rfl rfl)
theorem dL_law_449 : decode cL_law 449 = .ok (.iconst 0, 1) := dk_3 (dk_at dksL_law_10 13 rfl rfl)
theorem dL_law_450 : decode cL_law 450 = .ok (.ireturn, 1) := dk_172 (dk_at dksL_law_10 14 rfl rfl)
theorem dL_law_451 : decode cL_law 451 = .ok (.goto 2733, 3) := dk_167 10 173 (dk_at dksL_law_10 15 rfl rfl)
theorem dL_law_454 : decode cL_law 454 = .ok (.aload_n 1, 1) := dk_43 (dk_at dksL_law_10 18 rfl rfl)
theorem dL_law_455 : decode cL_law 455 = .ok (.invokevirtual 165, 3) := dk_182 0 165 (dk_at dksL_law_10 19 rfl rfl)
theorem dL_law_458 : decode cL_law 458 = .ok (.aload_n 2, 1) := dk_44 (dk_at dksL_law_10 22 rfl rfl)
theorem dL_law_459 : decode cL_law 459 = .ok (.invokevirtual 168, 3) := dk_182 0 168 (dk_at dksL_law_11 0 rfl rfl)
theorem dL_law_462 : decode cL_law 462 = .ok (.if_icmp .eq 2722, 3) := dk_159 10 162 (dk_at dksL_law_11 3 rfl rfl)
theorem dL_law_465 : decode cL_law 465 = .ok (.iconst 0, 1) := dk_3 (dk_at dksL_law_11 6 rfl rfl)
theorem dL_law_466 : decode cL_law 466 = .ok (.ireturn, 1) := dk_172 (dk_at dksL_law_11 7 rfl rfl)
theorem dL_law_467 : decode cL_law 467 = .ok (.aload_n 1, 1) := dk_43 (dk_at dksL_law_11 8 rfl rfl)
theorem dL_law_468 : decode cL_law 468 = .ok (.aload_n 0, 1) := dk_42 (dk_at dksL_law_11 9 rfl rfl)
theorem dL_law_469 : decode cL_law 469 = .ok (.iload 4, 2) := dk_21 4 (dk_at dksL_law_11 10 rfl rfl)
theorem dL_law_471 : decode cL_law 471 = .ok (.iconst 1, 1) := dk_4 (dk_at dksL_law_11 12 rfl rfl)
theorem dL_law_472 : decode cL_law 472 = .ok (.iadd, 1) := dk_96 (dk_at dksL_law_11 13 rfl rfl)
theorem dL_law_473 : decode cL_law 473 = .ok (.iaload, 1) := dk_46 (dk_at dksL_law_11 14 rfl rfl)
theorem dL_law_474 : decode cL_law 474 = .ok (.aload_n 0, 1) := dk_42 (dk_at dksL_law_11 15 rfl rfl)
theorem dL_law_475 : decode cL_law 475 = .ok (.iload 4, 2) := dk_21 4 (dk_at dksL_law_11 16 rfl rfl)
theorem dL_law_477 : decode cL_law 477 = .ok (.iconst 2, 1) := dk_5 (dk_at dksL_law_11 18 rfl rfl)
theorem dL_law_478 : decode cL_law 478 = .ok (.iadd, 1) := dk_96 (dk_at dksL_law_11 19 rfl rfl)
theorem dL_law_479 : decode cL_law 479 = .ok (.iaload, 1) := dk_46 (dk_at dksL_law_11 20 rfl rfl)
theorem dL_law_480 : decode cL_law 480 = .ok (.aload_n 3, 1) := dk_45 (dk_at dksL_law_11 21 rfl rfl)
theorem dL_law_481 : decode cL_law 481 = .ok (.invokestatic 169, 3) := dk_184 0 169 (dk_at dksL_law_12 0 rfl rfl)
theorem dL_law_484 : decode cL_law 484 = .ok (.istore 5, 2) := dk_54 5 (dk_at dksL_law_12 3 rfl rfl)
theorem dL_law_486 : decode cL_law 486 = .ok (.aload_n 2, 1) := dk_44 (dk_at dksL_law_12 5 rfl rfl)
theorem dL_law_487 : decode cL_law 487 = .ok (.aload_n 0, 1) := dk_42 (dk_at dksL_law_12 6 rfl rfl)
theorem dL_law_488 : decode cL_law 488 = .ok (.iload 4, 2) := dk_21 4 (dk_at dksL_law_12 7 rfl rfl)
theorem dL_law_490 : decode cL_law 490 = .ok (.iconst 1, 1) := dk_4 (dk_at dksL_law_12 9 rfl rfl)
theorem dL_law_491 : decode cL_law 491 = .ok (.iadd, 1) := dk_96 (dk_at dksL_law_12 10 rfl rfl)
theorem dL_law_492 : decode cL_law 492 = .ok (.iaload, 1) := dk_46 (dk_at dksL_law_12 11 rfl rfl)
theorem dL_law_493 : decode cL_law 493 = .ok (.aload_n 0, 1) := dk_42 (dk_at dksL_law_12 12 rfl rfl)
theorem dL_law_494 : decode cL_law 494 = .ok (.iload 4, 2) := dk_21 4 (dk_at dksL_law_12 13 rfl rfl)
theorem dL_law_496 : decode cL_law 496 = .ok (.iconst 2, 1) := dk_5 (dk_at dksL_law_12 15 rfl rfl)
theorem dL_law_497 : decode cL_law 497 = .ok (.iadd, 1) := dk_96 (dk_at dksL_law_12 16 rfl rfl)
theorem dL_law_498 : decode cL_law 498 = .ok (.iaload, 1) := dk_46 (dk_at dksL_law_12 17 rfl rfl)
theorem dL_law_499 : decode cL_law 499 = .ok (.invokevirtual 172, 3) := dk_182 0 172 (dk_at dksL_law_12 18 rfl rfl)
theorem dL_law_502 : decode cL_law 502 = .ok (.istore 6, 2) := dk_54 6 (dk_at dksL_law_12 21 rfl rfl)
theorem dL_law_504 : decode cL_law 504 = .ok (.aload_n 2, 1) := dk_44 (dk_at dksL_law_12 23 rfl rfl)
theorem dL_law_505 : decode cL_law 505 = .ok (.invokevirtual 159, 3) := dk_182 0 159 (dk_at dksL_law_13 0 rfl rfl)
theorem dL_law_508 : decode cL_law 508 = .ok (.iload 5, 2) := dk_21 5 (dk_at dksL_law_13 3 rfl rfl)
theorem dL_law_510 : decode cL_law 510 = .ok (.if_icmp .eq 5, 3) := dk_159 0 5 (dk_at dksL_law_13 5 rfl rfl)
theorem dL_law_513 : decode cL_law 513 = .ok (.iconst 0, 1) := dk_3 (dk_at dksL_law_13 8 rfl rfl)
theorem dL_law_514 : decode cL_law 514 = .ok (.ireturn, 1) := dk_172 (dk_at dksL_law_13 9 rfl rfl)
theorem dL_law_515 : decode cL_law 515 = .ok (.iload 5, 2) := dk_21 5 (dk_at dksL_law_13 10 rfl rfl)
theorem dL_law_517 : decode cL_law 517 = .ok (.ifCond .ne 15, 3) := dk_154 0 15 (dk_at dksL_law_13 12 rfl rfl)
theorem dL_law_520 : decode cL_law 520 = .ok (.aload_n 3, 1) := dk_45 (dk_at dksL_law_13 15 rfl rfl)
theorem dL_law_521 : decode cL_law 521 = .ok (.iconst 0, 1) := dk_3 (dk_at dksL_law_13 16 rfl rfl)
theorem dL_law_522 : decode cL_law 522 = .ok (.laload, 1) := dk_47 (dk_at dksL_law_13 17 rfl rfl)
theorem dL_law_523 : decode cL_law 523 = .ok (.iload 6, 2) := dk_21 6 (dk_at dksL_law_13 18 rfl rfl)
theorem dL_law_525 : decode cL_law 525 = .ok (.i2l, 1) := dk_133 (dk_at dksL_law_13 20 rfl rfl)
theorem dL_law_526 : decode cL_law 526 = .ok (.lcmp, 1) := dk_148 (dk_at dksL_law_13 21 rfl rfl)
theorem dL_law_527 : decode cL_law 527 = .ok (.ifCond .eq 5, 3) := dk_153 0 5 (dk_at dksL_law_14 0 rfl rfl)
theorem dL_law_530 : decode cL_law 530 = .ok (.iconst 0, 1) := dk_3 (dk_at dksL_law_14 3 rfl rfl)
theorem dL_law_531 : decode cL_law 531 = .ok (.ireturn, 1) := dk_172 (dk_at dksL_law_14 4 rfl rfl)
theorem dL_law_532 : decode cL_law 532 = .ok (.goto 2652, 3) := dk_167 10 92 (dk_at dksL_law_14 5 rfl rfl)
theorem dL_law_535 : decode cL_law 535 = .ok (.aload_n 1, 1) := dk_43 (dk_at dksL_law_14 8 rfl rfl)
theorem dL_law_536 : decode cL_law 536 = .ok (.aload_n 0, 1) := dk_42 (dk_at dksL_law_14 9 rfl rfl)
theorem dL_law_537 : decode cL_law 537 = .ok (.iload 4, 2) := dk_21 4 (dk_at dksL_law_14 10 rfl rfl)
theorem dL_law_539 : decode cL_law 539 = .ok (.iconst 1, 1) := dk_4 (dk_at dksL_law_14 12 rfl rfl)
theorem dL_law_540 : decode cL_law 540 = .ok (.iadd, 1) := dk_96 (dk_at dksL_law_14 13 rfl rfl)
theorem dL_law_541 : decode cL_law 541 = .ok (.iaload, 1) := dk_46 (dk_at dksL_law_14 14 rfl rfl)
theorem dL_law_542 : decode cL_law 542 = .ok (.aload_n 0, 1) := dk_42 (dk_at dksL_law_14 15 rfl rfl)
theorem dL_law_543 : decode cL_law 543 = .ok (.iload 4, 2) := dk_21 4 (dk_at dksL_law_14 16 rfl rfl)
theorem dL_law_545 : decode cL_law 545 = .ok (.iconst 2, 1) := dk_5 (dk_at dksL_law_14 18 rfl rfl)
theorem dL_law_546 : decode cL_law 546 = .ok (.iadd, 1) := dk_96 (dk_at dksL_law_14 19 rfl rfl)
theorem dL_law_547 : decode cL_law 547 = .ok (.iaload, 1) := dk_46 (dk_at dksL_law_14 20 rfl rfl)
theorem dL_law_548 : decode cL_law 548 = .ok (.aload_n 3, 1) := dk_45 (dk_at dksL_law_14 21 rfl rfl)
theorem dL_law_549 : decode cL_law 549 = .ok (.invokestatic 173, 3) := dk_184 0 173 (dk_at dksL_law_15 0 rfl rfl)
theorem dL_law_552 : decode cL_law 552 = .ok (.istore 5, 2) := dk_54 5 (dk_at dksL_law_15 3 rfl rfl)
theorem dL_law_554 : decode cL_law 554 = .ok (.aload_n 2, 1) := dk_44 (dk_at dksL_law_15 5 rfl rfl)
theorem dL_law_555 : decode cL_law 555 = .ok (.aload_n 0, 1) := dk_42 (dk_at dksL_law_15 6 rfl rfl)
theorem dL_law_556 : decode cL_law 556 = .ok (.iload 4, 2) := dk_21 4 (dk_at dksL_law_15 7 rfl rfl)
theorem dL_law_558 : decode cL_law 558 = .ok (.iconst 1, 1) := dk_4 (dk_at dksL_law_15 9 rfl rfl)
theorem dL_law_559 : decode cL_law 559 = .ok (.iadd, 1) := dk_96 (dk_at dksL_law_15 10 rfl rfl)
theorem dL_law_560 : decode cL_law 560 = .ok (.iaload, 1) := dk_46 (dk_at dksL_law_15 11 rfl rfl)
theorem dL_law_561 : decode cL_law 561 = .ok (.aload_n 0, 1) := dk_42 (dk_at dksL_law_15 12 rfl rfl)
theorem dL_law_562 : decode cL_law 562 = .ok (.iload 4, 2) := dk_21 4 (dk_at dksL_law_15 13 rfl rfl)
theorem dL_law_564 : decode cL_law 564 = .ok (.iconst 2, 1) := dk_5 (dk_at dksL_law_15 15 rfl rfl)
theorem dL_law_565 : decode cL_law 565 = .ok (.iadd, 1) := dk_96 (dk_at dksL_law_15 16 rfl rfl)
theorem dL_law_566 : decode cL_law 566 = .ok (.iaload, 1) := dk_46 (dk_at dksL_law_15 17 rfl rfl)
theorem dL_law_567 : decode cL_law 567 = .ok (.invokevirtual 175, 3) := dk_182 0 175 (dk_at dksL_law_15 18 rfl rfl)
theorem dL_law_570 : decode cL_law 570 = .ok (.istore 6, 2) := dk_54 6 (dk_at dksL_law_15 21 rfl rfl)
theorem dL_law_572 : decode cL_law 572 = .ok (.aload_n 2, 1) := dk_44 (dk_at dksL_law_15 23 rfl rfl)
theorem dL_law_573 : decode cL_law 573 = .ok (.invokevirtual 159, 3) := dk_182 0 159 (dk_at dksL_law_16 0 rfl rfl)
theorem dL_law_576 : decode cL_law 576 = .ok (.iload 5, 2) := dk_21 5 (dk_at dksL_law_16 3 rfl rfl)
theorem dL_law_578 : decode cL_law 578 = .ok (.if_icmp .eq 5, 3) := dk_159 0 5 (dk_at dksL_law_16 5 rfl rfl)
theorem dL_law_581 : decode cL_law 581 = .ok (.iconst 0, 1) := dk_3 (dk_at dksL_law_16 8 rfl rfl)
theorem dL_law_582 : decode cL_law 582 = .ok (.ireturn, 1) := dk_172 (dk_at dksL_law_16 9 rfl rfl)
theorem dL_law_583 : decode cL_law 583 = .ok (.iload 5, 2) := dk_21 5 (dk_at dksL_law_16 10 rfl rfl)
theorem dL_law_585 : decode cL_law 585 = .ok (.ifCond .ne 15, 3) := dk_154 0 15 (dk_at dksL_law_16 12 rfl rfl)
theorem dL_law_588 : decode cL_law 588 = .ok (.aload_n 3, 1) := dk_45 (dk_at dksL_law_16 15 rfl rfl)
theorem dL_law_589 : decode cL_law 589 = .ok (.iconst 0, 1) := dk_3 (dk_at dksL_law_16 16 rfl rfl)
theorem dL_law_590 : decode cL_law 590 = .ok (.laload, 1) := dk_47 (dk_at dksL_law_16 17 rfl rfl)
theorem dL_law_591 : decode cL_law 591 = .ok (.iload 6, 2) := dk_21 6 (dk_at dksL_law_16 18 rfl rfl)
theorem dL_law_593 : decode cL_law 593 = .ok (.i2l, 1) := dk_133 (dk_at dksL_law_16 20 rfl rfl)
theorem dL_law_594 : decode cL_law 594 = .ok (.lcmp, 1) := dk_148 (dk_at dksL_law_16 21 rfl rfl)
theorem dL_law_595 : decode cL_law 595 = .ok (.ifCond .eq 5, 3) := dk_153 0 5 (dk_at dksL_law_17 0 rfl rfl)
theorem dL_law_598 : decode cL_law 598 = .ok (.iconst 0, 1) := dk_3 (dk_at dksL_law_17 3 rfl rfl)
theorem dL_law_599 : decode cL_law 599 = .ok (.ireturn, 1) := dk_172 (dk_at dksL_law_17 4 rfl rfl)
theorem dL_law_600 : decode cL_law 600 = .ok (.goto 2584, 3) := dk_167 10 24 (dk_at dksL_law_17 5 rfl rfl)
theorem dL_law_603 : decode cL_law 603 = .ok (.aload_n 1, 1) := dk_43 (dk_at dksL_law_17 8 rfl rfl)
theorem dL_law_604 : decode cL_law 604 = .ok (.aload_n 0, 1) := dk_42 (dk_at dksL_law_17 9 rfl rfl)
theorem dL_law_605 : decode cL_law 605 = .ok (.iload 4, 2) := dk_21 4 (dk_at dksL_law_17 10 rfl rfl)
theorem dL_law_607 : decode cL_law 607 = .ok (.iconst 1, 1) := dk_4 (dk_at dksL_law_17 12 rfl rfl)
theorem dL_law_608 : decode cL_law 608 = .ok (.iadd, 1) := dk_96 (dk_at dksL_law_17 13 rfl rfl)
theorem dL_law_609 : decode cL_law 609 = .ok (.iaload, 1) := dk_46 (dk_at dksL_law_17 14 rfl rfl)
theorem dL_law_610 : decode cL_law 610 = .ok (.aload_n 0, 1) := dk_42 (dk_at dksL_law_17 15 rfl rfl)
theorem dL_law_611 : decode cL_law 611 = .ok (.iload 4, 2) := dk_21 4 (dk_at dksL_law_17 16 rfl rfl)
theorem dL_law_613 : decode cL_law 613 = .ok (.iconst 2, 1) := dk_5 (dk_at dksL_law_17 18 rfl rfl)
theorem dL_law_614 : decode cL_law 614 = .ok (.iadd, 1) := dk_96 (dk_at dksL_law_17 19 rfl rfl)
theorem dL_law_615 : decode cL_law 615 = .ok (.iaload, 1) := dk_46 (dk_at dksL_law_17 20 rfl rfl)
theorem dL_law_616 : decode cL_law 616 = .ok (.aload_n 0, 1) := dk_42 (dk_at dksL_law_17 21 rfl rfl)
theorem dL_law_617 : decode cL_law 617 = .ok (.iload 4, 2) := dk_21 4 (dk_at dksL_law_17 22 rfl rfl)
theorem dL_law_619 : decode cL_law 619 = .ok (.iconst 3, 1) := dk_6 (dk_at dksL_law_18 0 rfl rfl)
theorem dL_law_620 : decode cL_law 620 = .ok (.iadd, 1) := dk_96 (dk_at dksL_law_18 1 rfl rfl)
theorem dL_law_621 : decode cL_law 621 = .ok (.iaload, 1) := dk_46 (dk_at dksL_law_18 2 rfl rfl)
theorem dL_law_622 : decode cL_law 622 = .ok (.ifCond .eq 7, 3) := dk_153 0 7 (dk_at dksL_law_18 3 rfl rfl)
theorem dL_law_625 : decode cL_law 625 = .ok (.iconst 1, 1) := dk_4 (dk_at dksL_law_18 6 rfl rfl)
theorem dL_law_626 : decode cL_law 626 = .ok (.goto 4, 3) := dk_167 0 4 (dk_at dksL_law_18 7 rfl rfl)
theorem dL_law_629 : decode cL_law 629 = .ok (.iconst 0, 1) := dk_3 (dk_at dksL_law_18 10 rfl rfl)
theorem dL_law_630 : decode cL_law 630 = .ok (.aload_n 3, 1) := dk_45 (dk_at dksL_law_18 11 rfl rfl)
theorem dL_law_631 : decode cL_law 631 = .ok (.invokestatic 176, 3) := dk_184 0 176 (dk_at dksL_law_18 12 rfl rfl)
theorem dL_law_634 : decode cL_law 634 = .ok (.istore 5, 2) := dk_54 5 (dk_at dksL_law_18 15 rfl rfl)
theorem dL_law_636 : decode cL_law 636 = .ok (.aload_n 2, 1) := dk_44 (dk_at dksL_law_18 17 rfl rfl)
theorem dL_law_637 : decode cL_law 637 = .ok (.aload_n 0, 1) := dk_42 (dk_at dksL_law_18 18 rfl rfl)
theorem dL_law_638 : decode cL_law 638 = .ok (.iload 4, 2) := dk_21 4 (dk_at dksL_law_18 19 rfl rfl)
theorem dL_law_640 : decode cL_law 640 = .ok (.iconst 1, 1) := dk_4 (dk_at dksL_law_18 21 rfl rfl)
theorem dL_law_641 : decode cL_law 641 = .ok (.iadd, 1) := dk_96 (dk_at dksL_law_18 22 rfl rfl)
theorem dL_law_642 : decode cL_law 642 = .ok (.iaload, 1) := dk_46 (dk_at dksL_law_18 23 rfl rfl)
theorem dL_law_643 : decode cL_law 643 = .ok (.aload_n 0, 1) := dk_42 (dk_at dksL_law_19 0 rfl rfl)
theorem dL_law_644 : decode cL_law 644 = .ok (.iload 4, 2) := dk_21 4 (dk_at dksL_law_19 1 rfl rfl)
theorem dL_law_646 : decode cL_law 646 = .ok (.iconst 2, 1) := dk_5 (dk_at dksL_law_19 3 rfl rfl)
theorem dL_law_647 : decode cL_law 647 = .ok (.iadd, 1) := dk_96 (dk_at dksL_law_19 4 rfl rfl)
theorem dL_law_648 : decode cL_law 648 = .ok (.iaload, 1) := dk_46 (dk_at dksL_law_19 5 rfl rfl)
theorem dL_law_649 : decode cL_law 649 = .ok (.aload_n 0, 1) := dk_42 (dk_at dksL_law_19 6 rfl rfl)
theorem dL_law_650 : decode cL_law 650 = .ok (.iload 4, 2) := dk_21 4 (dk_at dksL_law_19 7 rfl rfl)
theorem dL_law_652 : decode cL_law 652 = .ok (.iconst 3, 1) := dk_6 (dk_at dksL_law_19 9 rfl rfl)
theorem dL_law_653 : decode cL_law 653 = .ok (.iadd, 1) := dk_96 (dk_at dksL_law_19 10 rfl rfl)
theorem dL_law_654 : decode cL_law 654 = .ok (.iaload, 1) := dk_46 (dk_at dksL_law_19 11 rfl rfl)
theorem dL_law_655 : decode cL_law 655 = .ok (.ifCond .eq 7, 3) := dk_153 0 7 (dk_at dksL_law_19 12 rfl rfl)
theorem dL_law_658 : decode cL_law 658 = .ok (.iconst 1, 1) := dk_4 (dk_at dksL_law_19 15 rfl rfl)
theorem dL_law_659 : decode cL_law 659 = .ok (.goto 4, 3) := dk_167 0 4 (dk_at dksL_law_19 16 rfl rfl)
theorem dL_law_662 : decode cL_law 662 = .ok (.iconst 0, 1) := dk_3 (dk_at dksL_law_19 19 rfl rfl)
theorem dL_law_663 : decode cL_law 663 = .ok (.invokevirtual 179, 3) := dk_182 0 179 (dk_at dksL_law_19 20 rfl rfl)
theorem dL_law_666 : decode cL_law 666 = .ok (.istore 6, 2) := dk_54 6 (dk_at dksL_law_20 0 rfl rfl)
theorem dL_law_668 : decode cL_law 668 = .ok (.aload_n 2, 1) := dk_44 (dk_at dksL_law_20 2 rfl rfl)
theorem dL_law_669 : decode cL_law 669 = .ok (.invokevirtual 159, 3) := dk_182 0 159 (dk_at dksL_law_20 3 rfl rfl)
theorem dL_law_672 : decode cL_law 672 = .ok (.iload 5, 2) := dk_21 5 (dk_at dksL_law_20 6 rfl rfl)
theorem dL_law_674 : decode cL_law 674 = .ok (.if_icmp .eq 5, 3) := dk_159 0 5 (dk_at dksL_law_20 8 rfl rfl)
theorem dL_law_677 : decode cL_law 677 = .ok (.iconst 0, 1) := dk_3 (dk_at dksL_law_20 11 rfl rfl)
theorem dL_law_678 : decode cL_law 678 = .ok (.ireturn, 1) := dk_172 (dk_at dksL_law_20 12 rfl rfl)
theorem dL_law_679 : decode cL_law 679 = .ok (.iload 5, 2) := dk_21 5 (dk_at dksL_law_20 13 rfl rfl)
theorem dL_law_681 : decode cL_law 681 = .ok (.ifCond .ne 15, 3) := dk_154 0 15 (dk_at dksL_law_20 15 rfl rfl)
theorem dL_law_684 : decode cL_law 684 = .ok (.aload_n 3, 1) := dk_45 (dk_at dksL_law_20 18 rfl rfl)
theorem dL_law_685 : decode cL_law 685 = .ok (.iconst 0, 1) := dk_3 (dk_at dksL_law_20 19 rfl rfl)
theorem dL_law_686 : decode cL_law 686 = .ok (.laload, 1) := dk_47 (dk_at dksL_law_20 20 rfl rfl)
theorem dL_law_687 : decode cL_law 687 = .ok (.iload 6, 2) := dk_21 6 (dk_at dksL_law_20 21 rfl rfl)
theorem dL_law_689 : decode cL_law 689 = .ok (.i2l, 1) := dk_133 (dk_at dksL_law_20 23 rfl rfl)
theorem dL_law_690 : decode cL_law 690 = .ok (.lcmp, 1) := dk_148 (dk_at dksL_law_21 0 rfl rfl)
theorem dL_law_691 : decode cL_law 691 = .ok (.ifCond .eq 5, 3) := dk_153 0 5 (dk_at dksL_law_21 1 rfl rfl)
theorem dL_law_694 : decode cL_law 694 = .ok (.iconst 0, 1) := dk_3 (dk_at dksL_law_21 4 rfl rfl)
theorem dL_law_695 : decode cL_law 695 = .ok (.ireturn, 1) := dk_172 (dk_at dksL_law_21 5 rfl rfl)
theorem dL_law_696 : decode cL_law 696 = .ok (.goto 2488, 3) := dk_167 9 184 (dk_at dksL_law_21 6 rfl rfl)
theorem dL_law_699 : decode cL_law 699 = .ok (.aload_n 1, 1) := dk_43 (dk_at dksL_law_21 9 rfl rfl)
theorem dL_law_700 : decode cL_law 700 = .ok (.aload_n 0, 1) := dk_42 (dk_at dksL_law_21 10 rfl rfl)
theorem dL_law_701 : decode cL_law 701 = .ok (.iload 4, 2) := dk_21 4 (dk_at dksL_law_21 11 rfl rfl)
theorem dL_law_703 : decode cL_law 703 = .ok (.iconst 1, 1) := dk_4 (dk_at dksL_law_21 13 rfl rfl)
theorem dL_law_704 : decode cL_law 704 = .ok (.iadd, 1) := dk_96 (dk_at dksL_law_21 14 rfl rfl)
theorem dL_law_705 : decode cL_law 705 = .ok (.iaload, 1) := dk_46 (dk_at dksL_law_21 15 rfl rfl)
theorem dL_law_706 : decode cL_law 706 = .ok (.aload_n 0, 1) := dk_42 (dk_at dksL_law_21 16 rfl rfl)
theorem dL_law_707 : decode cL_law 707 = .ok (.iload 4, 2) := dk_21 4 (dk_at dksL_law_21 17 rfl rfl)
theorem dL_law_709 : decode cL_law 709 = .ok (.iconst 2, 1) := dk_5 (dk_at dksL_law_21 19 rfl rfl)
theorem dL_law_710 : decode cL_law 710 = .ok (.iadd, 1) := dk_96 (dk_at dksL_law_21 20 rfl rfl)
theorem dL_law_711 : decode cL_law 711 = .ok (.iaload, 1) := dk_46 (dk_at dksL_law_21 21 rfl rfl)
theorem dL_law_712 : decode cL_law 712 = .ok (.aload_n 3, 1) := dk_45 (dk_at dksL_law_21 22 rfl rfl)
theorem dL_law_713 : decode cL_law 713 = .ok (.invokestatic 180, 3) := dk_184 0 180 (dk_at dksL_law_22 0 rfl rfl)
theorem dL_law_716 : decode cL_law 716 = .ok (.istore 5, 2) := dk_54 5 (dk_at dksL_law_22 3 rfl rfl)
theorem dL_law_718 : decode cL_law 718 = .ok (.aload_n 2, 1) := dk_44 (dk_at dksL_law_22 5 rfl rfl)
theorem dL_law_719 : decode cL_law 719 = .ok (.aload_n 0, 1) := dk_42 (dk_at dksL_law_22 6 rfl rfl)
theorem dL_law_720 : decode cL_law 720 = .ok (.iload 4, 2) := dk_21 4 (dk_at dksL_law_22 7 rfl rfl)
theorem dL_law_722 : decode cL_law 722 = .ok (.iconst 1, 1) := dk_4 (dk_at dksL_law_22 9 rfl rfl)
theorem dL_law_723 : decode cL_law 723 = .ok (.iadd, 1) := dk_96 (dk_at dksL_law_22 10 rfl rfl)
theorem dL_law_724 : decode cL_law 724 = .ok (.iaload, 1) := dk_46 (dk_at dksL_law_22 11 rfl rfl)
theorem dL_law_725 : decode cL_law 725 = .ok (.aload_n 0, 1) := dk_42 (dk_at dksL_law_22 12 rfl rfl)
theorem dL_law_726 : decode cL_law 726 = .ok (.iload 4, 2) := dk_21 4 (dk_at dksL_law_22 13 rfl rfl)
theorem dL_law_728 : decode cL_law 728 = .ok (.iconst 2, 1) := dk_5 (dk_at dksL_law_22 15 rfl rfl)
theorem dL_law_729 : decode cL_law 729 = .ok (.iadd, 1) := dk_96 (dk_at dksL_law_22 16 rfl rfl)
theorem dL_law_730 : decode cL_law 730 = .ok (.iaload, 1) := dk_46 (dk_at dksL_law_22 17 rfl rfl)
theorem dL_law_731 : decode cL_law 731 = .ok (.invokevirtual 182, 3) := dk_182 0 182 (dk_at dksL_law_22 18 rfl rfl)
theorem dL_law_734 : decode cL_law 734 = .ok (.istore 6, 2) := dk_54 6 (dk_at dksL_law_22 21 rfl rfl)
theorem dL_law_736 : decode cL_law 736 = .ok (.aload_n 2, 1) := dk_44 (dk_at dksL_law_22 23 rfl rfl)
theorem dL_law_737 : decode cL_law 737 = .ok (.invokevirtual 159, 3) := dk_182 0 159 (dk_at dksL_law_23 0 rfl rfl)
theorem dL_law_740 : decode cL_law 740 = .ok (.iload 5, 2) := dk_21 5 (dk_at dksL_law_23 3 rfl rfl)
theorem dL_law_742 : decode cL_law 742 = .ok (.if_icmp .eq 5, 3) := dk_159 0 5 (dk_at dksL_law_23 5 rfl rfl)
theorem dL_law_745 : decode cL_law 745 = .ok (.iconst 0, 1) := dk_3 (dk_at dksL_law_23 8 rfl rfl)
theorem dL_law_746 : decode cL_law 746 = .ok (.ireturn, 1) := dk_172 (dk_at dksL_law_23 9 rfl rfl)
theorem dL_law_747 : decode cL_law 747 = .ok (.iload 5, 2) := dk_21 5 (dk_at dksL_law_23 10 rfl rfl)
theorem dL_law_749 : decode cL_law 749 = .ok (.ifCond .ne 15, 3) := dk_154 0 15 (dk_at dksL_law_23 12 rfl rfl)
theorem dL_law_752 : decode cL_law 752 = .ok (.aload_n 3, 1) := dk_45 (dk_at dksL_law_23 15 rfl rfl)
theorem dL_law_753 : decode cL_law 753 = .ok (.iconst 0, 1) := dk_3 (dk_at dksL_law_23 16 rfl rfl)
theorem dL_law_754 : decode cL_law 754 = .ok (.laload, 1) := dk_47 (dk_at dksL_law_23 17 rfl rfl)
theorem dL_law_755 : decode cL_law 755 = .ok (.iload 6, 2) := dk_21 6 (dk_at dksL_law_23 18 rfl rfl)
theorem dL_law_757 : decode cL_law 757 = .ok (.i2l, 1) := dk_133 (dk_at dksL_law_23 20 rfl rfl)
theorem dL_law_758 : decode cL_law 758 = .ok (.lcmp, 1) := dk_148 (dk_at dksL_law_23 21 rfl rfl)
theorem dL_law_759 : decode cL_law 759 = .ok (.ifCond .eq 5, 3) := dk_153 0 5 (dk_at dksL_law_24 0 rfl rfl)
theorem dL_law_762 : decode cL_law 762 = .ok (.iconst 0, 1) := dk_3 (dk_at dksL_law_24 3 rfl rfl)
theorem dL_law_763 : decode cL_law 763 = .ok (.ireturn, 1) := dk_172 (dk_at dksL_law_24 4 rfl rfl)
theorem dL_law_764 : decode cL_law 764 = .ok (.goto 2420, 3) := dk_167 9 116 (dk_at dksL_law_24 5 rfl rfl)
theorem dL_law_767 : decode cL_law 767 = .ok (.aload_n 1, 1) := dk_43 (dk_at dksL_law_24 8 rfl rfl)
theorem dL_law_768 : decode cL_law 768 = .ok (.aload_n 0, 1) := dk_42 (dk_at dksL_law_24 9 rfl rfl)
theorem dL_law_769 : decode cL_law 769 = .ok (.iload 4, 2) := dk_21 4 (dk_at dksL_law_24 10 rfl rfl)
theorem dL_law_771 : decode cL_law 771 = .ok (.iconst 1, 1) := dk_4 (dk_at dksL_law_24 12 rfl rfl)
theorem dL_law_772 : decode cL_law 772 = .ok (.iadd, 1) := dk_96 (dk_at dksL_law_24 13 rfl rfl)
theorem dL_law_773 : decode cL_law 773 = .ok (.iaload, 1) := dk_46 (dk_at dksL_law_24 14 rfl rfl)
theorem dL_law_774 : decode cL_law 774 = .ok (.aload_n 0, 1) := dk_42 (dk_at dksL_law_24 15 rfl rfl)
theorem dL_law_775 : decode cL_law 775 = .ok (.iload 4, 2) := dk_21 4 (dk_at dksL_law_24 16 rfl rfl)
theorem dL_law_777 : decode cL_law 777 = .ok (.iconst 2, 1) := dk_5 (dk_at dksL_law_24 18 rfl rfl)
theorem dL_law_778 : decode cL_law 778 = .ok (.iadd, 1) := dk_96 (dk_at dksL_law_24 19 rfl rfl)
theorem dL_law_779 : decode cL_law 779 = .ok (.iaload, 1) := dk_46 (dk_at dksL_law_24 20 rfl rfl)
theorem dL_law_780 : decode cL_law 780 = .ok (.aload_n 0, 1) := dk_42 (dk_at dksL_law_24 21 rfl rfl)
theorem dL_law_781 : decode cL_law 781 = .ok (.iload 4, 2) := dk_21 4 (dk_at dksL_law_24 22 rfl rfl)
theorem dL_law_783 : decode cL_law 783 = .ok (.iconst 3, 1) := dk_6 (dk_at dksL_law_25 0 rfl rfl)
theorem dL_law_784 : decode cL_law 784 = .ok (.iadd, 1) := dk_96 (dk_at dksL_law_25 1 rfl rfl)
theorem dL_law_785 : decode cL_law 785 = .ok (.iaload, 1) := dk_46 (dk_at dksL_law_25 2 rfl rfl)
theorem dL_law_786 : decode cL_law 786 = .ok (.aload_n 3, 1) := dk_45 (dk_at dksL_law_25 3 rfl rfl)
theorem dL_law_787 : decode cL_law 787 = .ok (.invokestatic 183, 3) := dk_184 0 183 (dk_at dksL_law_25 4 rfl rfl)
theorem dL_law_790 : decode cL_law 790 = .ok (.istore 5, 2) := dk_54 5 (dk_at dksL_law_25 7 rfl rfl)
theorem dL_law_792 : decode cL_law 792 = .ok (.aload_n 2, 1) := dk_44 (dk_at dksL_law_25 9 rfl rfl)
theorem dL_law_793 : decode cL_law 793 = .ok (.aload_n 0, 1) := dk_42 (dk_at dksL_law_25 10 rfl rfl)
theorem dL_law_794 : decode cL_law 794 = .ok (.iload 4, 2) := dk_21 4 (dk_at dksL_law_25 11 rfl rfl)
theorem dL_law_796 : decode cL_law 796 = .ok (.iconst 1, 1) := dk_4 (dk_at dksL_law_25 13 rfl rfl)
theorem dL_law_797 : decode cL_law 797 = .ok (.iadd, 1) := dk_96 (dk_at dksL_law_25 14 rfl rfl)
theorem dL_law_798 : decode cL_law 798 = .ok (.iaload, 1) := dk_46 (dk_at dksL_law_25 15 rfl rfl)
theorem dL_law_799 : decode cL_law 799 = .ok (.aload_n 0, 1) := dk_42 (dk_at dksL_law_25 16 rfl rfl)
theorem dL_law_800 : decode cL_law 800 = .ok (.iload 4, 2) := dk_21 4 (dk_at dksL_law_25 17 rfl rfl)
theorem dL_law_802 : decode cL_law 802 = .ok (.iconst 2, 1) := dk_5 (dk_at dksL_law_25 19 rfl rfl)
theorem dL_law_803 : decode cL_law 803 = .ok (.iadd, 1) := dk_96 (dk_at dksL_law_25 20 rfl rfl)
theorem dL_law_804 : decode cL_law 804 = .ok (.iaload, 1) := dk_46 (dk_at dksL_law_25 21 rfl rfl)
theorem dL_law_805 : decode cL_law 805 = .ok (.aload_n 0, 1) := dk_42 (dk_at dksL_law_25 22 rfl rfl)
theorem dL_law_806 : decode cL_law 806 = .ok (.iload 4, 2) := dk_21 4 (dk_at dksL_law_26 0 rfl rfl)
theorem dL_law_808 : decode cL_law 808 = .ok (.iconst 3, 1) := dk_6 (dk_at dksL_law_26 2 rfl rfl)
theorem dL_law_809 : decode cL_law 809 = .ok (.iadd, 1) := dk_96 (dk_at dksL_law_26 3 rfl rfl)
theorem dL_law_810 : decode cL_law 810 = .ok (.iaload, 1) := dk_46 (dk_at dksL_law_26 4 rfl rfl)
theorem dL_law_811 : decode cL_law 811 = .ok (.invokevirtual 186, 3) := dk_182 0 186 (dk_at dksL_law_26 5 rfl rfl)
theorem dL_law_814 : decode cL_law 814 = .ok (.istore 6, 2) := dk_54 6 (dk_at dksL_law_26 8 rfl rfl)
theorem dL_law_816 : decode cL_law 816 = .ok (.aload_n 2, 1) := dk_44 (dk_at dksL_law_26 10 rfl rfl)
theorem dL_law_817 : decode cL_law 817 = .ok (.invokevirtual 159, 3) := dk_182 0 159 (dk_at dksL_law_26 11 rfl rfl)
theorem dL_law_820 : decode cL_law 820 = .ok (.iload 5, 2) := dk_21 5 (dk_at dksL_law_26 14 rfl rfl)
theorem dL_law_822 : decode cL_law 822 = .ok (.if_icmp .eq 5, 3) := dk_159 0 5 (dk_at dksL_law_26 16 rfl rfl)
theorem dL_law_825 : decode cL_law 825 = .ok (.iconst 0, 1) := dk_3 (dk_at dksL_law_26 19 rfl rfl)
theorem dL_law_826 : decode cL_law 826 = .ok (.ireturn, 1) := dk_172 (dk_at dksL_law_26 20 rfl rfl)
theorem dL_law_827 : decode cL_law 827 = .ok (.iload 5, 2) := dk_21 5 (dk_at dksL_law_26 21 rfl rfl)
theorem dL_law_829 : decode cL_law 829 = .ok (.ifCond .ne 22, 3) := dk_154 0 22 (dk_at dksL_law_27 0 rfl rfl)
theorem dL_law_832 : decode cL_law 832 = .ok (.aload_n 3, 1) := dk_45 (dk_at dksL_law_27 3 rfl rfl)
theorem dL_law_833 : decode cL_law 833 = .ok (.iconst 0, 1) := dk_3 (dk_at dksL_law_27 4 rfl rfl)
theorem dL_law_834 : decode cL_law 834 = .ok (.laload, 1) := dk_47 (dk_at dksL_law_27 5 rfl rfl)
theorem dL_law_835 : decode cL_law 835 = .ok (.iload 6, 2) := dk_21 6 (dk_at dksL_law_27 6 rfl rfl)
theorem dL_law_837 : decode cL_law 837 = .ok (.ifCond .eq 7, 3) := dk_153 0 7 (dk_at dksL_law_27 8 rfl rfl)
theorem dL_law_840 : decode cL_law 840 = .ok (.lconst 1, 1) := dk_10 (dk_at dksL_law_27 11 rfl rfl)
theorem dL_law_841 : decode cL_law 841 = .ok (.goto 4, 3) := dk_167 0 4 (dk_at dksL_law_27 12 rfl rfl)
theorem dL_law_844 : decode cL_law 844 = .ok (.lconst 0, 1) := dk_9 (dk_at dksL_law_27 15 rfl rfl)
theorem dL_law_845 : decode cL_law 845 = .ok (.lcmp, 1) := dk_148 (dk_at dksL_law_27 16 rfl rfl)
theorem dL_law_846 : decode cL_law 846 = .ok (.ifCond .eq 5, 3) := dk_153 0 5 (dk_at dksL_law_27 17 rfl rfl)
theorem dL_law_849 : decode cL_law 849 = .ok (.iconst 0, 1) := dk_3 (dk_at dksL_law_27 20 rfl rfl)
theorem dL_law_850 : decode cL_law 850 = .ok (.ireturn, 1) := dk_172 (dk_at dksL_law_27 21 rfl rfl)
theorem dL_law_851 : decode cL_law 851 = .ok (.goto 2333, 3) := dk_167 9 29 (dk_at dksL_law_28 0 rfl rfl)
theorem dL_law_854 : decode cL_law 854 = .ok (.aload_n 1, 1) := dk_43 (dk_at dksL_law_28 3 rfl rfl)
theorem dL_law_855 : decode cL_law 855 = .ok (.aload_n 0, 1) := dk_42 (dk_at dksL_law_28 4 rfl rfl)
theorem dL_law_856 : decode cL_law 856 = .ok (.iload 4, 2) := dk_21 4 (dk_at dksL_law_28 5 rfl rfl)
theorem dL_law_858 : decode cL_law 858 = .ok (.iconst 1, 1) := dk_4 (dk_at dksL_law_28 7 rfl rfl)
theorem dL_law_859 : decode cL_law 859 = .ok (.iadd, 1) := dk_96 (dk_at dksL_law_28 8 rfl rfl)
theorem dL_law_860 : decode cL_law 860 = .ok (.iaload, 1) := dk_46 (dk_at dksL_law_28 9 rfl rfl)
theorem dL_law_861 : decode cL_law 861 = .ok (.aload_n 0, 1) := dk_42 (dk_at dksL_law_28 10 rfl rfl)
theorem dL_law_862 : decode cL_law 862 = .ok (.iload 4, 2) := dk_21 4 (dk_at dksL_law_28 11 rfl rfl)
theorem dL_law_864 : decode cL_law 864 = .ok (.iconst 2, 1) := dk_5 (dk_at dksL_law_28 13 rfl rfl)
theorem dL_law_865 : decode cL_law 865 = .ok (.iadd, 1) := dk_96 (dk_at dksL_law_28 14 rfl rfl)
theorem dL_law_866 : decode cL_law 866 = .ok (.iaload, 1) := dk_46 (dk_at dksL_law_28 15 rfl rfl)
theorem dL_law_867 : decode cL_law 867 = .ok (.aload_n 0, 1) := dk_42 (dk_at dksL_law_28 16 rfl rfl)
theorem dL_law_868 : decode cL_law 868 = .ok (.iload 4, 2) := dk_21 4 (dk_at dksL_law_28 17 rfl rfl)
theorem dL_law_870 : decode cL_law 870 = .ok (.iconst 3, 1) := dk_6 (dk_at dksL_law_28 19 rfl rfl)
theorem dL_law_871 : decode cL_law 871 = .ok (.iadd, 1) := dk_96 (dk_at dksL_law_28 20 rfl rfl)
theorem dL_law_872 : decode cL_law 872 = .ok (.iaload, 1) := dk_46 (dk_at dksL_law_28 21 rfl rfl)
theorem dL_law_873 : decode cL_law 873 = .ok (.aload_n 3, 1) := dk_45 (dk_at dksL_law_28 22 rfl rfl)
theorem dL_law_874 : decode cL_law 874 = .ok (.invokestatic 187, 3) := dk_184 0 187 (dk_at dksL_law_29 0 rfl rfl)
theorem dL_law_877 : decode cL_law 877 = .ok (.istore 5, 2) := dk_54 5 (dk_at dksL_law_29 3 rfl rfl)
theorem dL_law_879 : decode cL_law 879 = .ok (.aload_n 2, 1) := dk_44 (dk_at dksL_law_29 5 rfl rfl)
theorem dL_law_880 : decode cL_law 880 = .ok (.aload_n 0, 1) := dk_42 (dk_at dksL_law_29 6 rfl rfl)
theorem dL_law_881 : decode cL_law 881 = .ok (.iload 4, 2) := dk_21 4 (dk_at dksL_law_29 7 rfl rfl)
theorem dL_law_883 : decode cL_law 883 = .ok (.iconst 1, 1) := dk_4 (dk_at dksL_law_29 9 rfl rfl)
theorem dL_law_884 : decode cL_law 884 = .ok (.iadd, 1) := dk_96 (dk_at dksL_law_29 10 rfl rfl)
theorem dL_law_885 : decode cL_law 885 = .ok (.iaload, 1) := dk_46 (dk_at dksL_law_29 11 rfl rfl)
theorem dL_law_886 : decode cL_law 886 = .ok (.aload_n 0, 1) := dk_42 (dk_at dksL_law_29 12 rfl rfl)
theorem dL_law_887 : decode cL_law 887 = .ok (.iload 4, 2) := dk_21 4 (dk_at dksL_law_29 13 rfl rfl)
theorem dL_law_889 : decode cL_law 889 = .ok (.iconst 2, 1) := dk_5 (dk_at dksL_law_29 15 rfl rfl)
theorem dL_law_890 : decode cL_law 890 = .ok (.iadd, 1) := dk_96 (dk_at dksL_law_29 16 rfl rfl)
theorem dL_law_891 : decode cL_law 891 = .ok (.iaload, 1) := dk_46 (dk_at dksL_law_29 17 rfl rfl)
theorem dL_law_892 : decode cL_law 892 = .ok (.aload_n 0, 1) := dk_42 (dk_at dksL_law_29 18 rfl rfl)
theorem dL_law_893 : decode cL_law 893 = .ok (.iload 4, 2) := dk_21 4 (dk_at dksL_law_29 19 rfl rfl)
theorem dL_law_895 : decode cL_law 895 = .ok (.iconst 3, 1) := dk_6 (dk_at dksL_law_29 21 rfl rfl)
theorem dL_law_896 : decode cL_law 896 = .ok (.iadd, 1) := dk_96 (dk_at dksL_law_29 22 rfl rfl)
theorem dL_law_897 : decode cL_law 897 = .ok (.iaload, 1) := dk_46 (dk_at dksL_law_29 23 rfl rfl)
theorem dL_law_898 : decode cL_law 898 = .ok (.invokevirtual 189, 3) := dk_182 0 189 (dk_at dksL_law_30 0 rfl rfl)
theorem dL_law_901 : decode cL_law 901 = .ok (.istore 6, 2) := dk_54 6 (dk_at dksL_law_30 3 rfl rfl)
theorem dL_law_903 : decode cL_law 903 = .ok (.aload_n 2, 1) := dk_44 (dk_at dksL_law_30 5 rfl rfl)
theorem dL_law_904 : decode cL_law 904 = .ok (.invokevirtual 159, 3) := dk_182 0 159 (dk_at dksL_law_30 6 rfl rfl)
theorem dL_law_907 : decode cL_law 907 = .ok (.iload 5, 2) := dk_21 5 (dk_at dksL_law_30 9 rfl rfl)
theorem dL_law_909 : decode cL_law 909 = .ok (.if_icmp .eq 5, 3) := dk_159 0 5 (dk_at dksL_law_30 11 rfl rfl)
theorem dL_law_912 : decode cL_law 912 = .ok (.iconst 0, 1) := dk_3 (dk_at dksL_law_30 14 rfl rfl)
theorem dL_law_913 : decode cL_law 913 = .ok (.ireturn, 1) := dk_172 (dk_at dksL_law_30 15 rfl rfl)
theorem dL_law_914 : decode cL_law 914 = .ok (.iload 5, 2) := dk_21 5 (dk_at dksL_law_30 16 rfl rfl)
theorem dL_law_916 : decode cL_law 916 = .ok (.ifCond .ne 22, 3) := dk_154 0 22 (dk_at dksL_law_30 18 rfl rfl)
theorem dL_law_919 : decode cL_law 919 = .ok (.aload_n 3, 1) := dk_45 (dk_at dksL_law_30 21 rfl rfl)
theorem dL_law_920 : decode cL_law 920 = .ok (.iconst 0, 1) := dk_3 (dk_at dksL_law_30 22 rfl rfl)
theorem dL_law_921 : decode cL_law 921 = .ok (.laload, 1) := dk_47 (dk_at dksL_law_30 23 rfl rfl)
theorem dL_law_922 : decode cL_law 922 = .ok (.iload 6, 2) := dk_21 6 (dk_at dksL_law_31 0 rfl rfl)
theorem dL_law_924 : decode cL_law 924 = .ok (.ifCond .eq 7, 3) := dk_153 0 7 (dk_at dksL_law_31 2 rfl rfl)
theorem dL_law_927 : decode cL_law 927 = .ok (.lconst 1, 1) := dk_10 (dk_at dksL_law_31 5 rfl rfl)
theorem dL_law_928 : decode cL_law 928 = .ok (.goto 4, 3) := dk_167 0 4 (dk_at dksL_law_31 6 rfl rfl)
theorem dL_law_931 : decode cL_law 931 = .ok (.lconst 0, 1) := dk_9 (dk_at dksL_law_31 9 rfl rfl)
theorem dL_law_932 : decode cL_law 932 = .ok (.lcmp, 1) := dk_148 (dk_at dksL_law_31 10 rfl rfl)
theorem dL_law_933 : decode cL_law 933 = .ok (.ifCond .eq 5, 3) := dk_153 0 5 (dk_at dksL_law_31 11 rfl rfl)
theorem dL_law_936 : decode cL_law 936 = .ok (.iconst 0, 1) := dk_3 (dk_at dksL_law_31 14 rfl rfl)
theorem dL_law_937 : decode cL_law 937 = .ok (.ireturn, 1) := dk_172 (dk_at dksL_law_31 15 rfl rfl)
theorem dL_law_938 : decode cL_law 938 = .ok (.goto 2246, 3) := dk_167 8 198 (dk_at dksL_law_31 16 rfl rfl)
theorem dL_law_941 : decode cL_law 941 = .ok (.aload_n 1, 1) := dk_43 (dk_at dksL_law_31 19 rfl rfl)
theorem dL_law_942 : decode cL_law 942 = .ok (.aload_n 0, 1) := dk_42 (dk_at dksL_law_31 20 rfl rfl)
theorem dL_law_943 : decode cL_law 943 = .ok (.iload 4, 2) := dk_21 4 (dk_at dksL_law_31 21 rfl rfl)
theorem dL_law_945 : decode cL_law 945 = .ok (.iconst 1, 1) := dk_4 (dk_at dksL_law_31 23 rfl rfl)
theorem dL_law_946 : decode cL_law 946 = .ok (.iadd, 1) := dk_96 (dk_at dksL_law_32 0 rfl rfl)
theorem dL_law_947 : decode cL_law 947 = .ok (.iaload, 1) := dk_46 (dk_at dksL_law_32 1 rfl rfl)
theorem dL_law_948 : decode cL_law 948 = .ok (.aload_n 0, 1) := dk_42 (dk_at dksL_law_32 2 rfl rfl)
theorem dL_law_949 : decode cL_law 949 = .ok (.iload 4, 2) := dk_21 4 (dk_at dksL_law_32 3 rfl rfl)
theorem dL_law_951 : decode cL_law 951 = .ok (.iconst 2, 1) := dk_5 (dk_at dksL_law_32 5 rfl rfl)
theorem dL_law_952 : decode cL_law 952 = .ok (.iadd, 1) := dk_96 (dk_at dksL_law_32 6 rfl rfl)
theorem dL_law_953 : decode cL_law 953 = .ok (.iaload, 1) := dk_46 (dk_at dksL_law_32 7 rfl rfl)
theorem dL_law_954 : decode cL_law 954 = .ok (.aload_n 0, 1) := dk_42 (dk_at dksL_law_32 8 rfl rfl)
theorem dL_law_955 : decode cL_law 955 = .ok (.iload 4, 2) := dk_21 4 (dk_at dksL_law_32 9 rfl rfl)
theorem dL_law_957 : decode cL_law 957 = .ok (.iconst 3, 1) := dk_6 (dk_at dksL_law_32 11 rfl rfl)
theorem dL_law_958 : decode cL_law 958 = .ok (.iadd, 1) := dk_96 (dk_at dksL_law_32 12 rfl rfl)
theorem dL_law_959 : decode cL_law 959 = .ok (.iaload, 1) := dk_46 (dk_at dksL_law_32 13 rfl rfl)
theorem dL_law_960 : decode cL_law 960 = .ok (.aload_n 3, 1) := dk_45 (dk_at dksL_law_32 14 rfl rfl)
theorem dL_law_961 : decode cL_law 961 = .ok (.invokestatic 190, 3) := dk_184 0 190 (dk_at dksL_law_32 15 rfl rfl)
theorem dL_law_964 : decode cL_law 964 = .ok (.istore 5, 2) := dk_54 5 (dk_at dksL_law_32 18 rfl rfl)
theorem dL_law_966 : decode cL_law 966 = .ok (.aload_n 2, 1) := dk_44 (dk_at dksL_law_32 20 rfl rfl)
theorem dL_law_967 : decode cL_law 967 = .ok (.aload_n 0, 1) := dk_42 (dk_at dksL_law_32 21 rfl rfl)
theorem dL_law_968 : decode cL_law 968 = .ok (.iload 4, 2) := dk_21 4 (dk_at dksL_law_32 22 rfl rfl)
theorem dL_law_970 : decode cL_law 970 = .ok (.iconst 1, 1) := dk_4 (dk_at dksL_law_33 0 rfl rfl)
theorem dL_law_971 : decode cL_law 971 = .ok (.iadd, 1) := dk_96 (dk_at dksL_law_33 1 rfl rfl)
theorem dL_law_972 : decode cL_law 972 = .ok (.iaload, 1) := dk_46 (dk_at dksL_law_33 2 rfl rfl)
theorem dL_law_973 : decode cL_law 973 = .ok (.aload_n 0, 1) := dk_42 (dk_at dksL_law_33 3 rfl rfl)
theorem dL_law_974 : decode cL_law 974 = .ok (.iload 4, 2) := dk_21 4 (dk_at dksL_law_33 4 rfl rfl)
theorem dL_law_976 : decode cL_law 976 = .ok (.iconst 2, 1) := dk_5 (dk_at dksL_law_33 6 rfl rfl)
theorem dL_law_977 : decode cL_law 977 = .ok (.iadd, 1) := dk_96 (dk_at dksL_law_33 7 rfl rfl)
theorem dL_law_978 : decode cL_law 978 = .ok (.iaload, 1) := dk_46 (dk_at dksL_law_33 8 rfl rfl)
theorem dL_law_979 : decode cL_law 979 = .ok (.aload_n 0, 1) := dk_42 (dk_at dksL_law_33 9 rfl rfl)
theorem dL_law_980 : decode cL_law 980 = .ok (.iload 4, 2) := dk_21 4 (dk_at dksL_law_33 10 rfl rfl)
theorem dL_law_982 : decode cL_law 982 = .ok (.iconst 3, 1) := dk_6 (dk_at dksL_law_33 12 rfl rfl)
theorem dL_law_983 : decode cL_law 983 = .ok (.iadd, 1) := dk_96 (dk_at dksL_law_33 13 rfl rfl)
theorem dL_law_984 : decode cL_law 984 = .ok (.iaload, 1) := dk_46 (dk_at dksL_law_33 14 rfl rfl)
theorem dL_law_985 : decode cL_law 985 = .ok (.invokevirtual 192, 3) := dk_182 0 192 (dk_at dksL_law_33 15 rfl rfl)
theorem dL_law_988 : decode cL_law 988 = .ok (.istore 6, 2) := dk_54 6 (dk_at dksL_law_33 18 rfl rfl)
theorem dL_law_990 : decode cL_law 990 = .ok (.aload_n 2, 1) := dk_44 (dk_at dksL_law_33 20 rfl rfl)
theorem dL_law_991 : decode cL_law 991 = .ok (.invokevirtual 159, 3) := dk_182 0 159 (dk_at dksL_law_33 21 rfl rfl)
theorem dL_law_994 : decode cL_law 994 = .ok (.iload 5, 2) := dk_21 5 (dk_at dksL_law_34 0 rfl rfl)
theorem dL_law_996 : decode cL_law 996 = .ok (.if_icmp .eq 5, 3) := dk_159 0 5 (dk_at dksL_law_34 2 rfl rfl)
theorem dL_law_999 : decode cL_law 999 = .ok (.iconst 0, 1) := dk_3 (dk_at dksL_law_34 5 rfl rfl)
theorem dL_law_1000 : decode cL_law 1000 = .ok (.ireturn, 1) := dk_172 (dk_at dksL_law_34 6 rfl rfl)
theorem dL_law_1001 : decode cL_law 1001 = .ok (.iload 5, 2) := dk_21 5 (dk_at dksL_law_34 7 rfl rfl)
theorem dL_law_1003 : decode cL_law 1003 = .ok (.ifCond .ne 15, 3) := dk_154 0 15 (dk_at dksL_law_34 9 rfl rfl)
theorem dL_law_1006 : decode cL_law 1006 = .ok (.aload_n 3, 1) := dk_45 (dk_at dksL_law_34 12 rfl rfl)
theorem dL_law_1007 : decode cL_law 1007 = .ok (.iconst 0, 1) := dk_3 (dk_at dksL_law_34 13 rfl rfl)
theorem dL_law_1008 : decode cL_law 1008 = .ok (.laload, 1) := dk_47 (dk_at dksL_law_34 14 rfl rfl)
theorem dL_law_1009 : decode cL_law 1009 = .ok (.iload 6, 2) := dk_21 6 (dk_at dksL_law_34 15 rfl rfl)
theorem dL_law_1011 : decode cL_law 1011 = .ok (.i2l, 1) := dk_133 (dk_at dksL_law_34 17 rfl rfl)
theorem dL_law_1012 : decode cL_law 1012 = .ok (.lcmp, 1) := dk_148 (dk_at dksL_law_34 18 rfl rfl)
theorem dL_law_1013 : decode cL_law 1013 = .ok (.ifCond .eq 5, 3) := dk_153 0 5 (dk_at dksL_law_34 19 rfl rfl)
theorem dL_law_1016 : decode cL_law 1016 = .ok (.iconst 0, 1) := dk_3 (dk_at dksL_law_34 22 rfl rfl)
theorem dL_law_1017 : decode cL_law 1017 = .ok (.ireturn, 1) := dk_172 (dk_at dksL_law_34 23 rfl rfl)
theorem dL_law_1018 : decode cL_law 1018 = .ok (.goto 2166, 3) := dk_167 8 118 (dk_at dksL_law_35 0 rfl rfl)
theorem dL_law_1021 : decode cL_law 1021 = .ok (.aload_n 1, 1) := dk_43 (dk_at dksL_law_35 3 rfl rfl)
theorem dL_law_1022 : decode cL_law 1022 = .ok (.aload_n 0, 1) := dk_42 (dk_at dksL_law_35 4 rfl rfl)
theorem dL_law_1023 : decode cL_law 1023 = .ok (.iload 4, 2) := dk_21 4 (dk_at dksL_law_35 5 rfl rfl)
theorem dL_law_1025 : decode cL_law 1025 = .ok (.iconst 1, 1) := dk_4 (dk_at dksL_law_35 7 rfl rfl)
theorem dL_law_1026 : decode cL_law 1026 = .ok (.iadd, 1) := dk_96 (dk_at dksL_law_35 8 rfl rfl)
theorem dL_law_1027 : decode cL_law 1027 = .ok (.iaload, 1) := dk_46 (dk_at dksL_law_35 9 rfl rfl)
theorem dL_law_1028 : decode cL_law 1028 = .ok (.aload_n 0, 1) := dk_42 (dk_at dksL_law_35 10 rfl rfl)
theorem dL_law_1029 : decode cL_law 1029 = .ok (.iload 4, 2) := dk_21 4 (dk_at dksL_law_35 11 rfl rfl)
theorem dL_law_1031 : decode cL_law 1031 = .ok (.iconst 2, 1) := dk_5 (dk_at dksL_law_35 13 rfl rfl)
theorem dL_law_1032 : decode cL_law 1032 = .ok (.iadd, 1) := dk_96 (dk_at dksL_law_35 14 rfl rfl)
theorem dL_law_1033 : decode cL_law 1033 = .ok (.iaload, 1) := dk_46 (dk_at dksL_law_35 15 rfl rfl)
theorem dL_law_1034 : decode cL_law 1034 = .ok (.aload_n 0, 1) := dk_42 (dk_at dksL_law_35 16 rfl rfl)
theorem dL_law_1035 : decode cL_law 1035 = .ok (.iload 4, 2) := dk_21 4 (dk_at dksL_law_35 17 rfl rfl)
theorem dL_law_1037 : decode cL_law 1037 = .ok (.iconst 3, 1) := dk_6 (dk_at dksL_law_35 19 rfl rfl)
theorem dL_law_1038 : decode cL_law 1038 = .ok (.iadd, 1) := dk_96 (dk_at dksL_law_35 20 rfl rfl)
theorem dL_law_1039 : decode cL_law 1039 = .ok (.iaload, 1) := dk_46 (dk_at dksL_law_35 21 rfl rfl)
theorem dL_law_1040 : decode cL_law 1040 = .ok (.aload_n 3, 1) := dk_45 (dk_at dksL_law_35 22 rfl rfl)
theorem dL_law_1041 : decode cL_law 1041 = .ok (.invokestatic 193, 3) := dk_184 0 193 (dk_at dksL_law_36 0 rfl rfl)
theorem dL_law_1044 : decode cL_law 1044 = .ok (.istore 5, 2) := dk_54 5 (dk_at dksL_law_36 3 rfl rfl)
theorem dL_law_1046 : decode cL_law 1046 = .ok (.aload_n 2, 1) := dk_44 (dk_at dksL_law_36 5 rfl rfl)
theorem dL_law_1047 : decode cL_law 1047 = .ok (.aload_n 0, 1) := dk_42 (dk_at dksL_law_36 6 rfl rfl)
theorem dL_law_1048 : decode cL_law 1048 = .ok (.iload 4, 2) := dk_21 4 (dk_at dksL_law_36 7 rfl rfl)
theorem dL_law_1050 : decode cL_law 1050 = .ok (.iconst 1, 1) := dk_4 (dk_at dksL_law_36 9 rfl rfl)
theorem dL_law_1051 : decode cL_law 1051 = .ok (.iadd, 1) := dk_96 (dk_at dksL_law_36 10 rfl rfl)
theorem dL_law_1052 : decode cL_law 1052 = .ok (.iaload, 1) := dk_46 (dk_at dksL_law_36 11 rfl rfl)
theorem dL_law_1053 : decode cL_law 1053 = .ok (.aload_n 0, 1) := dk_42 (dk_at dksL_law_36 12 rfl rfl)
theorem dL_law_1054 : decode cL_law 1054 = .ok (.iload 4, 2) := dk_21 4 (dk_at dksL_law_36 13 rfl rfl)
theorem dL_law_1056 : decode cL_law 1056 = .ok (.iconst 2, 1) := dk_5 (dk_at dksL_law_36 15 rfl rfl)
theorem dL_law_1057 : decode cL_law 1057 = .ok (.iadd, 1) := dk_96 (dk_at dksL_law_36 16 rfl rfl)
theorem dL_law_1058 : decode cL_law 1058 = .ok (.iaload, 1) := dk_46 (dk_at dksL_law_36 17 rfl rfl)
theorem dL_law_1059 : decode cL_law 1059 = .ok (.aload_n 0, 1) := dk_42 (dk_at dksL_law_36 18 rfl rfl)
theorem dL_law_1060 : decode cL_law 1060 = .ok (.iload 4, 2) := dk_21 4 (dk_at dksL_law_36 19 rfl rfl)
theorem dL_law_1062 : decode cL_law 1062 = .ok (.iconst 3, 1) := dk_6 (dk_at dksL_law_36 21 rfl rfl)
theorem dL_law_1063 : decode cL_law 1063 = .ok (.iadd, 1) := dk_96 (dk_at dksL_law_36 22 rfl rfl)
theorem dL_law_1064 : decode cL_law 1064 = .ok (.iaload, 1) := dk_46 (dk_at dksL_law_36 23 rfl rfl)
theorem dL_law_1065 : decode cL_law 1065 = .ok (.invokevirtual 195, 3) := dk_182 0 195 (dk_at dksL_law_37 0 rfl rfl)
theorem dL_law_1068 : decode cL_law 1068 = .ok (.istore 6, 2) := dk_54 6 (dk_at dksL_law_37 3 rfl rfl)
theorem dL_law_1070 : decode cL_law 1070 = .ok (.aload_n 2, 1) := dk_44 (dk_at dksL_law_37 5 rfl rfl)
theorem dL_law_1071 : decode cL_law 1071 = .ok (.invokevirtual 159, 3) := dk_182 0 159 (dk_at dksL_law_37 6 rfl rfl)
theorem dL_law_1074 : decode cL_law 1074 = .ok (.iload 5, 2) := dk_21 5 (dk_at dksL_law_37 9 rfl rfl)
theorem dL_law_1076 : decode cL_law 1076 = .ok (.if_icmp .eq 5, 3) := dk_159 0 5 (dk_at dksL_law_37 11 rfl rfl)
theorem dL_law_1079 : decode cL_law 1079 = .ok (.iconst 0, 1) := dk_3 (dk_at dksL_law_37 14 rfl rfl)
theorem dL_law_1080 : decode cL_law 1080 = .ok (.ireturn, 1) := dk_172 (dk_at dksL_law_37 15 rfl rfl)
theorem dL_law_1081 : decode cL_law 1081 = .ok (.iload 5, 2) := dk_21 5 (dk_at dksL_law_37 16 rfl rfl)
theorem dL_law_1083 : decode cL_law 1083 = .ok (.ifCond .ne 15, 3) := dk_154 0 15 (dk_at dksL_law_37 18 rfl rfl)
theorem dL_law_1086 : decode cL_law 1086 = .ok (.aload_n 3, 1) := dk_45 (dk_at dksL_law_37 21 rfl rfl)
theorem dL_law_1087 : decode cL_law 1087 = .ok (.iconst 0, 1) := dk_3 (dk_at dksL_law_37 22 rfl rfl)
theorem dL_law_1088 : decode cL_law 1088 = .ok (.laload, 1) := dk_47 (dk_at dksL_law_37 23 rfl rfl)
theorem dL_law_1089 : decode cL_law 1089 = .ok (.iload 6, 2) := dk_21 6 (dk_at dksL_law_38 0 rfl rfl)
theorem dL_law_1091 : decode cL_law 1091 = .ok (.i2l, 1) := dk_133 (dk_at dksL_law_38 2 rfl rfl)
theorem dL_law_1092 : decode cL_law 1092 = .ok (.lcmp, 1) := dk_148 (dk_at dksL_law_38 3 rfl rfl)
theorem dL_law_1093 : decode cL_law 1093 = .ok (.ifCond .eq 5, 3) := dk_153 0 5 (dk_at dksL_law_38 4 rfl rfl)
theorem dL_law_1096 : decode cL_law 1096 = .ok (.iconst 0, 1) := dk_3 (dk_at dksL_law_38 7 rfl rfl)
theorem dL_law_1097 : decode cL_law 1097 = .ok (.ireturn, 1) := dk_172 (dk_at dksL_law_38 8 rfl rfl)
theorem dL_law_1098 : decode cL_law 1098 = .ok (.goto 2086, 3) := dk_167 8 38 (dk_at dksL_law_38 9 rfl rfl)
theorem dL_law_1101 : decode cL_law 1101 = .ok (.aload_n 1, 1) := dk_43 (dk_at dksL_law_38 12 rfl rfl)
theorem dL_law_1102 : decode cL_law 1102 = .ok (.aload_n 0, 1) := dk_42 (dk_at dksL_law_38 13 rfl rfl)
theorem dL_law_1103 : decode cL_law 1103 = .ok (.iload 4, 2) := dk_21 4 (dk_at dksL_law_38 14 rfl rfl)
theorem dL_law_1105 : decode cL_law 1105 = .ok (.iconst 1, 1) := dk_4 (dk_at dksL_law_38 16 rfl rfl)
theorem dL_law_1106 : decode cL_law 1106 = .ok (.iadd, 1) := dk_96 (dk_at dksL_law_38 17 rfl rfl)
theorem dL_law_1107 : decode cL_law 1107 = .ok (.iaload, 1) := dk_46 (dk_at dksL_law_38 18 rfl rfl)
theorem dL_law_1108 : decode cL_law 1108 = .ok (.aload_n 0, 1) := dk_42 (dk_at dksL_law_38 19 rfl rfl)
theorem dL_law_1109 : decode cL_law 1109 = .ok (.iload 4, 2) := dk_21 4 (dk_at dksL_law_38 20 rfl rfl)
theorem dL_law_1111 : decode cL_law 1111 = .ok (.iconst 2, 1) := dk_5 (dk_at dksL_law_38 22 rfl rfl)
theorem dL_law_1112 : decode cL_law 1112 = .ok (.iadd, 1) := dk_96 (dk_at dksL_law_38 23 rfl rfl)
theorem dL_law_1113 : decode cL_law 1113 = .ok (.iaload, 1) := dk_46 (dk_at dksL_law_39 0 rfl rfl)
theorem dL_law_1114 : decode cL_law 1114 = .ok (.aload_n 3, 1) := dk_45 (dk_at dksL_law_39 1 rfl rfl)
theorem dL_law_1115 : decode cL_law 1115 = .ok (.invokestatic 196, 3) := dk_184 0 196 (dk_at dksL_law_39 2 rfl rfl)
theorem dL_law_1118 : decode cL_law 1118 = .ok (.istore 5, 2) := dk_54 5 (dk_at dksL_law_39 5 rfl rfl)
theorem dL_law_1120 : decode cL_law 1120 = .ok (.aload_n 2, 1) := dk_44 (dk_at dksL_law_39 7 rfl rfl)
theorem dL_law_1121 : decode cL_law 1121 = .ok (.aload_n 0, 1) := dk_42 (dk_at dksL_law_39 8 rfl rfl)
theorem dL_law_1122 : decode cL_law 1122 = .ok (.iload 4, 2) := dk_21 4 (dk_at dksL_law_39 9 rfl rfl)
theorem dL_law_1124 : decode cL_law 1124 = .ok (.iconst 1, 1) := dk_4 (dk_at dksL_law_39 11 rfl rfl)
theorem dL_law_1125 : decode cL_law 1125 = .ok (.iadd, 1) := dk_96 (dk_at dksL_law_39 12 rfl rfl)
theorem dL_law_1126 : decode cL_law 1126 = .ok (.iaload, 1) := dk_46 (dk_at dksL_law_39 13 rfl rfl)
theorem dL_law_1127 : decode cL_law 1127 = .ok (.aload_n 0, 1) := dk_42 (dk_at dksL_law_39 14 rfl rfl)
theorem dL_law_1128 : decode cL_law 1128 = .ok (.iload 4, 2) := dk_21 4 (dk_at dksL_law_39 15 rfl rfl)
theorem dL_law_1130 : decode cL_law 1130 = .ok (.iconst 2, 1) := dk_5 (dk_at dksL_law_39 17 rfl rfl)
theorem dL_law_1131 : decode cL_law 1131 = .ok (.iadd, 1) := dk_96 (dk_at dksL_law_39 18 rfl rfl)
theorem dL_law_1132 : decode cL_law 1132 = .ok (.iaload, 1) := dk_46 (dk_at dksL_law_39 19 rfl rfl)
theorem dL_law_1133 : decode cL_law 1133 = .ok (.invokevirtual 198, 3) := dk_182 0 198 (dk_at dksL_law_39 20 rfl rfl)
theorem dL_law_1136 : decode cL_law 1136 = .ok (.istore 6, 2) := dk_54 6 (dk_at dksL_law_40 0 rfl rfl)
theorem dL_law_1138 : decode cL_law 1138 = .ok (.aload_n 2, 1) := dk_44 (dk_at dksL_law_40 2 rfl rfl)
theorem dL_law_1139 : decode cL_law 1139 = .ok (.invokevirtual 159, 3) := dk_182 0 159 (dk_at dksL_law_40 3 rfl rfl)
theorem dL_law_1142 : decode cL_law 1142 = .ok (.iload 5, 2) := dk_21 5 (dk_at dksL_law_40 6 rfl rfl)
theorem dL_law_1144 : decode cL_law 1144 = .ok (.if_icmp .eq 5, 3) := dk_159 0 5 (dk_at dksL_law_40 8 rfl rfl)
theorem dL_law_1147 : decode cL_law 1147 = .ok (.iconst 0, 1) := dk_3 (dk_at dksL_law_40 11 rfl rfl)
theorem dL_law_1148 : decode cL_law 1148 = .ok (.ireturn, 1) := dk_172 (dk_at dksL_law_40 12 rfl rfl)
theorem dL_law_1149 : decode cL_law 1149 = .ok (.iload 5, 2) := dk_21 5 (dk_at dksL_law_40 13 rfl rfl)
theorem dL_law_1151 : decode cL_law 1151 = .ok (.ifCond .ne 15, 3) := dk_154 0 15 (dk_at dksL_law_40 15 rfl rfl)
theorem dL_law_1154 : decode cL_law 1154 = .ok (.aload_n 3, 1) := dk_45 (dk_at dksL_law_40 18 rfl rfl)
theorem dL_law_1155 : decode cL_law 1155 = .ok (.iconst 0, 1) := dk_3 (dk_at dksL_law_40 19 rfl rfl)
theorem dL_law_1156 : decode cL_law 1156 = .ok (.laload, 1) := dk_47 (dk_at dksL_law_40 20 rfl rfl)
theorem dL_law_1157 : decode cL_law 1157 = .ok (.iload 6, 2) := dk_21 6 (dk_at dksL_law_40 21 rfl rfl)
theorem dL_law_1159 : decode cL_law 1159 = .ok (.i2l, 1) := dk_133 (dk_at dksL_law_40 23 rfl rfl)
theorem dL_law_1160 : decode cL_law 1160 = .ok (.lcmp, 1) := dk_148 (dk_at dksL_law_41 0 rfl rfl)
theorem dL_law_1161 : decode cL_law 1161 = .ok (.ifCond .eq 5, 3) := dk_153 0 5 (dk_at dksL_law_41 1 rfl rfl)
theorem dL_law_1164 : decode cL_law 1164 = .ok (.iconst 0, 1) := dk_3 (dk_at dksL_law_41 4 rfl rfl)
theorem dL_law_1165 : decode cL_law 1165 = .ok (.ireturn, 1) := dk_172 (dk_at dksL_law_41 5 rfl rfl)
theorem dL_law_1166 : decode cL_law 1166 = .ok (.goto 2018, 3) := dk_167 7 226 (dk_at dksL_law_41 6 rfl rfl)
theorem dL_law_1169 : decode cL_law 1169 = .ok (.aload_n 1, 1) := dk_43 (dk_at dksL_law_41 9 rfl rfl)
theorem dL_law_1170 : decode cL_law 1170 = .ok (.aload_n 0, 1) := dk_42 (dk_at dksL_law_41 10 rfl rfl)
theorem dL_law_1171 : decode cL_law 1171 = .ok (.iload 4, 2) := dk_21 4 (dk_at dksL_law_41 11 rfl rfl)
theorem dL_law_1173 : decode cL_law 1173 = .ok (.iconst 1, 1) := dk_4 (dk_at dksL_law_41 13 rfl rfl)
theorem dL_law_1174 : decode cL_law 1174 = .ok (.iadd, 1) := dk_96 (dk_at dksL_law_41 14 rfl rfl)
theorem dL_law_1175 : decode cL_law 1175 = .ok (.iaload, 1) := dk_46 (dk_at dksL_law_41 15 rfl rfl)
theorem dL_law_1176 : decode cL_law 1176 = .ok (.aload_n 0, 1) := dk_42 (dk_at dksL_law_41 16 rfl rfl)
theorem dL_law_1177 : decode cL_law 1177 = .ok (.iload 4, 2) := dk_21 4 (dk_at dksL_law_41 17 rfl rfl)
theorem dL_law_1179 : decode cL_law 1179 = .ok (.iconst 2, 1) := dk_5 (dk_at dksL_law_41 19 rfl rfl)
theorem dL_law_1180 : decode cL_law 1180 = .ok (.iadd, 1) := dk_96 (dk_at dksL_law_41 20 rfl rfl)
theorem dL_law_1181 : decode cL_law 1181 = .ok (.iaload, 1) := dk_46 (dk_at dksL_law_41 21 rfl rfl)
theorem dL_law_1182 : decode cL_law 1182 = .ok (.aload_n 0, 1) := dk_42 (dk_at dksL_law_41 22 rfl rfl)
theorem dL_law_1183 : decode cL_law 1183 = .ok (.iload 4, 2) := dk_21 4 (dk_at dksL_law_42 0 rfl rfl)
theorem dL_law_1185 : decode cL_law 1185 = .ok (.iconst 3, 1) := dk_6 (dk_at dksL_law_42 2 rfl rfl)
theorem dL_law_1186 : decode cL_law 1186 = .ok (.iadd, 1) := dk_96 (dk_at dksL_law_42 3 rfl rfl)
theorem dL_law_1187 : decode cL_law 1187 = .ok (.iaload, 1) := dk_46 (dk_at dksL_law_42 4 rfl rfl)
theorem dL_law_1188 : decode cL_law 1188 = .ok (.aload_n 3, 1) := dk_45 (dk_at dksL_law_42 5 rfl rfl)
theorem dL_law_1189 : decode cL_law 1189 = .ok (.invokestatic 199, 3) := dk_184 0 199 (dk_at dksL_law_42 6 rfl rfl)
theorem dL_law_1192 : decode cL_law 1192 = .ok (.istore 5, 2) := dk_54 5 (dk_at dksL_law_42 9 rfl rfl)
theorem dL_law_1194 : decode cL_law 1194 = .ok (.aload_n 2, 1) := dk_44 (dk_at dksL_law_42 11 rfl rfl)
theorem dL_law_1195 : decode cL_law 1195 = .ok (.aload_n 0, 1) := dk_42 (dk_at dksL_law_42 12 rfl rfl)
theorem dL_law_1196 : decode cL_law 1196 = .ok (.iload 4, 2) := dk_21 4 (dk_at dksL_law_42 13 rfl rfl)
theorem dL_law_1198 : decode cL_law 1198 = .ok (.iconst 1, 1) := dk_4 (dk_at dksL_law_42 15 rfl rfl)
theorem dL_law_1199 : decode cL_law 1199 = .ok (.iadd, 1) := dk_96 (dk_at dksL_law_42 16 rfl rfl)
theorem dL_law_1200 : decode cL_law 1200 = .ok (.iaload, 1) := dk_46 (dk_at dksL_law_42 17 rfl rfl)
theorem dL_law_1201 : decode cL_law 1201 = .ok (.aload_n 0, 1) := dk_42 (dk_at dksL_law_42 18 rfl rfl)
theorem dL_law_1202 : decode cL_law 1202 = .ok (.iload 4, 2) := dk_21 4 (dk_at dksL_law_42 19 rfl rfl)
theorem dL_law_1204 : decode cL_law 1204 = .ok (.iconst 2, 1) := dk_5 (dk_at dksL_law_42 21 rfl rfl)
theorem dL_law_1205 : decode cL_law 1205 = .ok (.iadd, 1) := dk_96 (dk_at dksL_law_42 22 rfl rfl)
theorem dL_law_1206 : decode cL_law 1206 = .ok (.iaload, 1) := dk_46 (dk_at dksL_law_42 23 rfl rfl)
theorem dL_law_1207 : decode cL_law 1207 = .ok (.aload_n 0, 1) := dk_42 (dk_at dksL_law_43 0 rfl rfl)
theorem dL_law_1208 : decode cL_law 1208 = .ok (.iload 4, 2) := dk_21 4 (dk_at dksL_law_43 1 rfl rfl)
theorem dL_law_1210 : decode cL_law 1210 = .ok (.iconst 3, 1) := dk_6 (dk_at dksL_law_43 3 rfl rfl)
theorem dL_law_1211 : decode cL_law 1211 = .ok (.iadd, 1) := dk_96 (dk_at dksL_law_43 4 rfl rfl)
theorem dL_law_1212 : decode cL_law 1212 = .ok (.iaload, 1) := dk_46 (dk_at dksL_law_43 5 rfl rfl)
theorem dL_law_1213 : decode cL_law 1213 = .ok (.invokevirtual 201, 3) := dk_182 0 201 (dk_at dksL_law_43 6 rfl rfl)
theorem dL_law_1216 : decode cL_law 1216 = .ok (.istore 6, 2) := dk_54 6 (dk_at dksL_law_43 9 rfl rfl)
theorem dL_law_1218 : decode cL_law 1218 = .ok (.aload_n 2, 1) := dk_44 (dk_at dksL_law_43 11 rfl rfl)
theorem dL_law_1219 : decode cL_law 1219 = .ok (.invokevirtual 159, 3) := dk_182 0 159 (dk_at dksL_law_43 12 rfl rfl)
theorem dL_law_1222 : decode cL_law 1222 = .ok (.iload 5, 2) := dk_21 5 (dk_at dksL_law_43 15 rfl rfl)
theorem dL_law_1224 : decode cL_law 1224 = .ok (.if_icmp .eq 5, 3) := dk_159 0 5 (dk_at dksL_law_43 17 rfl rfl)
theorem dL_law_1227 : decode cL_law 1227 = .ok (.iconst 0, 1) := dk_3 (dk_at dksL_law_43 20 rfl rfl)
theorem dL_law_1228 : decode cL_law 1228 = .ok (.ireturn, 1) := dk_172 (dk_at dksL_law_43 21 rfl rfl)
theorem dL_law_1229 : decode cL_law 1229 = .ok (.iload 5, 2) := dk_21 5 (dk_at dksL_law_43 22 rfl rfl)
theorem dL_law_1231 : decode cL_law 1231 = .ok (.ifCond .ne 15, 3) := dk_154 0 15 (dk_at dksL_law_44 0 rfl rfl)
theorem dL_law_1234 : decode cL_law 1234 = .ok (.aload_n 3, 1) := dk_45 (dk_at dksL_law_44 3 rfl rfl)
theorem dL_law_1235 : decode cL_law 1235 = .ok (.iconst 0, 1) := dk_3 (dk_at dksL_law_44 4 rfl rfl)
theorem dL_law_1236 : decode cL_law 1236 = .ok (.laload, 1) := dk_47 (dk_at dksL_law_44 5 rfl rfl)
theorem dL_law_1237 : decode cL_law 1237 = .ok (.iload 6, 2) := dk_21 6 (dk_at dksL_law_44 6 rfl rfl)
theorem dL_law_1239 : decode cL_law 1239 = .ok (.i2l, 1) := dk_133 (dk_at dksL_law_44 8 rfl rfl)
theorem dL_law_1240 : decode cL_law 1240 = .ok (.lcmp, 1) := dk_148 (dk_at dksL_law_44 9 rfl rfl)
theorem dL_law_1241 : decode cL_law 1241 = .ok (.ifCond .eq 5, 3) := dk_153 0 5 (dk_at dksL_law_44 10 rfl rfl)
theorem dL_law_1244 : decode cL_law 1244 = .ok (.iconst 0, 1) := dk_3 (dk_at dksL_law_44 13 rfl rfl)
theorem dL_law_1245 : decode cL_law 1245 = .ok (.ireturn, 1) := dk_172 (dk_at dksL_law_44 14 rfl rfl)
theorem dL_law_1246 : decode cL_law 1246 = .ok (.goto 1938, 3) := dk_167 7 146 (dk_at dksL_law_44 15 rfl rfl)
theorem dL_law_1249 : decode cL_law 1249 = .ok (.aload_n 1, 1) := dk_43 (dk_at dksL_law_44 18 rfl rfl)
theorem dL_law_1250 : decode cL_law 1250 = .ok (.aload_n 0, 1) := dk_42 (dk_at dksL_law_44 19 rfl rfl)
theorem dL_law_1251 : decode cL_law 1251 = .ok (.iload 4, 2) := dk_21 4 (dk_at dksL_law_44 20 rfl rfl)
theorem dL_law_1253 : decode cL_law 1253 = .ok (.iconst 1, 1) := dk_4 (dk_at dksL_law_44 22 rfl rfl)
theorem dL_law_1254 : decode cL_law 1254 = .ok (.iadd, 1) := dk_96 (dk_at dksL_law_44 23 rfl rfl)
theorem dL_law_1255 : decode cL_law 1255 = .ok (.iaload, 1) := dk_46 (dk_at dksL_law_45 0 rfl rfl)
theorem dL_law_1256 : decode cL_law 1256 = .ok (.aload_n 0, 1) := dk_42 (dk_at dksL_law_45 1 rfl rfl)
theorem dL_law_1257 : decode cL_law 1257 = .ok (.iload 4, 2) := dk_21 4 (dk_at dksL_law_45 2 rfl rfl)
theorem dL_law_1259 : decode cL_law 1259 = .ok (.iconst 2, 1) := dk_5 (dk_at dksL_law_45 4 rfl rfl)
theorem dL_law_1260 : decode cL_law 1260 = .ok (.iadd, 1) := dk_96 (dk_at dksL_law_45 5 rfl rfl)
theorem dL_law_1261 : decode cL_law 1261 = .ok (.iaload, 1) := dk_46 (dk_at dksL_law_45 6 rfl rfl)
theorem dL_law_1262 : decode cL_law 1262 = .ok (.aload_n 3, 1) := dk_45 (dk_at dksL_law_45 7 rfl rfl)
theorem dL_law_1263 : decode cL_law 1263 = .ok (.invokestatic 202, 3) := dk_184 0 202 (dk_at dksL_law_45 8 rfl rfl)
theorem dL_law_1266 : decode cL_law 1266 = .ok (.istore 5, 2) := dk_54 5 (dk_at dksL_law_45 11 rfl rfl)
theorem dL_law_1268 : decode cL_law 1268 = .ok (.aload_n 2, 1) := dk_44 (dk_at dksL_law_45 13 rfl rfl)
theorem dL_law_1269 : decode cL_law 1269 = .ok (.aload_n 0, 1) := dk_42 (dk_at dksL_law_45 14 rfl rfl)
theorem dL_law_1270 : decode cL_law 1270 = .ok (.iload 4, 2) := dk_21 4 (dk_at dksL_law_45 15 rfl rfl)
theorem dL_law_1272 : decode cL_law 1272 = .ok (.iconst 1, 1) := dk_4 (dk_at dksL_law_45 17 rfl rfl)
theorem dL_law_1273 : decode cL_law 1273 = .ok (.iadd, 1) := dk_96 (dk_at dksL_law_45 18 rfl rfl)
theorem dL_law_1274 : decode cL_law 1274 = .ok (.iaload, 1) := dk_46 (dk_at dksL_law_45 19 rfl rfl)
theorem dL_law_1275 : decode cL_law 1275 = .ok (.aload_n 0, 1) := dk_42 (dk_at dksL_law_45 20 rfl rfl)
theorem dL_law_1276 : decode cL_law 1276 = .ok (.iload 4, 2) := dk_21 4 (dk_at dksL_law_45 21 rfl rfl)
theorem dL_law_1278 : decode cL_law 1278 = .ok (.iconst 2, 1) := dk_5 (dk_at dksL_law_45 23 rfl rfl)
theorem dL_law_1279 : decode cL_law 1279 = .ok (.iadd, 1) := dk_96 (dk_at dksL_law_46 0 rfl rfl)
theorem dL_law_1280 : decode cL_law 1280 = .ok (.iaload, 1) := dk_46 (dk_at dksL_law_46 1 rfl rfl)
theorem dL_law_1281 : decode cL_law 1281 = .ok (.invokevirtual 204, 3) := dk_182 0 204 (dk_at dksL_law_46 2 rfl rfl)
theorem dL_law_1284 : decode cL_law 1284 = .ok (.istore 6, 2) := dk_54 6 (dk_at dksL_law_46 5 rfl rfl)
theorem dL_law_1286 : decode cL_law 1286 = .ok (.aload_n 2, 1) := dk_44 (dk_at dksL_law_46 7 rfl rfl)
theorem dL_law_1287 : decode cL_law 1287 = .ok (.invokevirtual 159, 3) := dk_182 0 159 (dk_at dksL_law_46 8 rfl rfl)
theorem dL_law_1290 : decode cL_law 1290 = .ok (.iload 5, 2) := dk_21 5 (dk_at dksL_law_46 11 rfl rfl)
theorem dL_law_1292 : decode cL_law 1292 = .ok (.if_icmp .eq 5, 3) := dk_159 0 5 (dk_at dksL_law_46 13 rfl rfl)
theorem dL_law_1295 : decode cL_law 1295 = .ok (.iconst 0, 1) := dk_3 (dk_at dksL_law_46 16 rfl rfl)
theorem dL_law_1296 : decode cL_law 1296 = .ok (.ireturn, 1) := dk_172 (dk_at dksL_law_46 17 rfl rfl)
theorem dL_law_1297 : decode cL_law 1297 = .ok (.iload 5, 2) := dk_21 5 (dk_at dksL_law_46 18 rfl rfl)
theorem dL_law_1299 : decode cL_law 1299 = .ok (.ifCond .ne 15, 3) := dk_154 0 15 (dk_at dksL_law_46 20 rfl rfl)
theorem dL_law_1302 : decode cL_law 1302 = .ok (.aload_n 3, 1) := dk_45 (dk_at dksL_law_46 23 rfl rfl)
theorem dL_law_1303 : decode cL_law 1303 = .ok (.iconst 0, 1) := dk_3 (dk_at dksL_law_47 0 rfl rfl)
theorem dL_law_1304 : decode cL_law 1304 = .ok (.laload, 1) := dk_47 (dk_at dksL_law_47 1 rfl rfl)
theorem dL_law_1305 : decode cL_law 1305 = .ok (.iload 6, 2) := dk_21 6 (dk_at dksL_law_47 2 rfl rfl)
theorem dL_law_1307 : decode cL_law 1307 = .ok (.i2l, 1) := dk_133 (dk_at dksL_law_47 4 rfl rfl)
theorem dL_law_1308 : decode cL_law 1308 = .ok (.lcmp, 1) := dk_148 (dk_at dksL_law_47 5 rfl rfl)
theorem dL_law_1309 : decode cL_law 1309 = .ok (.ifCond .eq 5, 3) := dk_153 0 5 (dk_at dksL_law_47 6 rfl rfl)
theorem dL_law_1312 : decode cL_law 1312 = .ok (.iconst 0, 1) := dk_3 (dk_at dksL_law_47 9 rfl rfl)
theorem dL_law_1313 : decode cL_law 1313 = .ok (.ireturn, 1) := dk_172 (dk_at dksL_law_47 10 rfl rfl)
theorem dL_law_1314 : decode cL_law 1314 = .ok (.goto 1870, 3) := dk_167 7 78 (dk_at dksL_law_47 11 rfl rfl)
theorem dL_law_1317 : decode cL_law 1317 = .ok (.aload_n 1, 1) := dk_43 (dk_at dksL_law_47 14 rfl rfl)
theorem dL_law_1318 : decode cL_law 1318 = .ok (.aload_n 0, 1) := dk_42 (dk_at dksL_law_47 15 rfl rfl)
theorem dL_law_1319 : decode cL_law 1319 = .ok (.iload 4, 2) := dk_21 4 (dk_at dksL_law_47 16 rfl rfl)
theorem dL_law_1321 : decode cL_law 1321 = .ok (.iconst 1, 1) := dk_4 (dk_at dksL_law_47 18 rfl rfl)
theorem dL_law_1322 : decode cL_law 1322 = .ok (.iadd, 1) := dk_96 (dk_at dksL_law_47 19 rfl rfl)
theorem dL_law_1323 : decode cL_law 1323 = .ok (.iaload, 1) := dk_46 (dk_at dksL_law_47 20 rfl rfl)
theorem dL_law_1324 : decode cL_law 1324 = .ok (.aload_n 0, 1) := dk_42 (dk_at dksL_law_47 21 rfl rfl)
theorem dL_law_1325 : decode cL_law 1325 = .ok (.iload 4, 2) := dk_21 4 (dk_at dksL_law_47 22 rfl rfl)
theorem dL_law_1327 : decode cL_law 1327 = .ok (.iconst 2, 1) := dk_5 (dk_at dksL_law_48 0 rfl rfl)
theorem dL_law_1328 : decode cL_law 1328 = .ok (.iadd, 1) := dk_96 (dk_at dksL_law_48 1 rfl rfl)
theorem dL_law_1329 : decode cL_law 1329 = .ok (.iaload, 1) := dk_46 (dk_at dksL_law_48 2 rfl rfl)
theorem dL_law_1330 : decode cL_law 1330 = .ok (.aload_n 3, 1) := dk_45 (dk_at dksL_law_48 3 rfl rfl)
theorem dL_law_1331 : decode cL_law 1331 = .ok (.invokestatic 205, 3) := dk_184 0 205 (dk_at dksL_law_48 4 rfl rfl)
theorem dL_law_1334 : decode cL_law 1334 = .ok (.istore 5, 2) := dk_54 5 (dk_at dksL_law_48 7 rfl rfl)
theorem dL_law_1336 : decode cL_law 1336 = .ok (.aload_n 2, 1) := dk_44 (dk_at dksL_law_48 9 rfl rfl)
theorem dL_law_1337 : decode cL_law 1337 = .ok (.aload_n 0, 1) := dk_42 (dk_at dksL_law_48 10 rfl rfl)
theorem dL_law_1338 : decode cL_law 1338 = .ok (.iload 4, 2) := dk_21 4 (dk_at dksL_law_48 11 rfl rfl)
theorem dL_law_1340 : decode cL_law 1340 = .ok (.iconst 1, 1) := dk_4 (dk_at dksL_law_48 13 rfl rfl)
theorem dL_law_1341 : decode cL_law 1341 = .ok (.iadd, 1) := dk_96 (dk_at dksL_law_48 14 rfl rfl)
theorem dL_law_1342 : decode cL_law 1342 = .ok (.iaload, 1) := dk_46 (dk_at dksL_law_48 15 rfl rfl)
theorem dL_law_1343 : decode cL_law 1343 = .ok (.aload_n 0, 1) := dk_42 (dk_at dksL_law_48 16 rfl rfl)
theorem dL_law_1344 : decode cL_law 1344 = .ok (.iload 4, 2) := dk_21 4 (dk_at dksL_law_48 17 rfl rfl)
theorem dL_law_1346 : decode cL_law 1346 = .ok (.iconst 2, 1) := dk_5 (dk_at dksL_law_48 19 rfl rfl)
theorem dL_law_1347 : decode cL_law 1347 = .ok (.iadd, 1) := dk_96 (dk_at dksL_law_48 20 rfl rfl)
theorem dL_law_1348 : decode cL_law 1348 = .ok (.iaload, 1) := dk_46 (dk_at dksL_law_48 21 rfl rfl)
theorem dL_law_1349 : decode cL_law 1349 = .ok (.invokevirtual 207, 3) := dk_182 0 207 (dk_at dksL_law_49 0 rfl rfl)
theorem dL_law_1352 : decode cL_law 1352 = .ok (.istore 6, 2) := dk_54 6 (dk_at dksL_law_49 3 rfl rfl)
theorem dL_law_1354 : decode cL_law 1354 = .ok (.aload_n 2, 1) := dk_44 (dk_at dksL_law_49 5 rfl rfl)
theorem dL_law_1355 : decode cL_law 1355 = .ok (.invokevirtual 159, 3) := dk_182 0 159 (dk_at dksL_law_49 6 rfl rfl)
theorem dL_law_1358 : decode cL_law 1358 = .ok (.iload 5, 2) := dk_21 5 (dk_at dksL_law_49 9 rfl rfl)
theorem dL_law_1360 : decode cL_law 1360 = .ok (.if_icmp .eq 5, 3) := dk_159 0 5 (dk_at dksL_law_49 11 rfl rfl)
theorem dL_law_1363 : decode cL_law 1363 = .ok (.iconst 0, 1) := dk_3 (dk_at dksL_law_49 14 rfl rfl)
theorem dL_law_1364 : decode cL_law 1364 = .ok (.ireturn, 1) := dk_172 (dk_at dksL_law_49 15 rfl rfl)
theorem dL_law_1365 : decode cL_law 1365 = .ok (.iload 5, 2) := dk_21 5 (dk_at dksL_law_49 16 rfl rfl)
theorem dL_law_1367 : decode cL_law 1367 = .ok (.ifCond .ne 15, 3) := dk_154 0 15 (dk_at dksL_law_49 18 rfl rfl)
theorem dL_law_1370 : decode cL_law 1370 = .ok (.aload_n 3, 1) := dk_45 (dk_at dksL_law_49 21 rfl rfl)
theorem dL_law_1371 : decode cL_law 1371 = .ok (.iconst 0, 1) := dk_3 (dk_at dksL_law_49 22 rfl rfl)
theorem dL_law_1372 : decode cL_law 1372 = .ok (.laload, 1) := dk_47 (dk_at dksL_law_49 23 rfl rfl)
theorem dL_law_1373 : decode cL_law 1373 = .ok (.iload 6, 2) := dk_21 6 (dk_at dksL_law_50 0 rfl rfl)
theorem dL_law_1375 : decode cL_law 1375 = .ok (.i2l, 1) := dk_133 (dk_at dksL_law_50 2 rfl rfl)
theorem dL_law_1376 : decode cL_law 1376 = .ok (.lcmp, 1) := dk_148 (dk_at dksL_law_50 3 rfl rfl)
theorem dL_law_1377 : decode cL_law 1377 = .ok (.ifCond .eq 5, 3) := dk_153 0 5 (dk_at dksL_law_50 4 rfl rfl)
theorem dL_law_1380 : decode cL_law 1380 = .ok (.iconst 0, 1) := dk_3 (dk_at dksL_law_50 7 rfl rfl)
theorem dL_law_1381 : decode cL_law 1381 = .ok (.ireturn, 1) := dk_172 (dk_at dksL_law_50 8 rfl rfl)
theorem dL_law_1382 : decode cL_law 1382 = .ok (.goto 1802, 3) := dk_167 7 10 (dk_at dksL_law_50 9 rfl rfl)
theorem dL_law_1385 : decode cL_law 1385 = .ok (.aload_n 1, 1) := dk_43 (dk_at dksL_law_50 12 rfl rfl)
theorem dL_law_1386 : decode cL_law 1386 = .ok (.aload_n 0, 1) := dk_42 (dk_at dksL_law_50 13 rfl rfl)
theorem dL_law_1387 : decode cL_law 1387 = .ok (.iload 4, 2) := dk_21 4 (dk_at dksL_law_50 14 rfl rfl)
theorem dL_law_1389 : decode cL_law 1389 = .ok (.iconst 1, 1) := dk_4 (dk_at dksL_law_50 16 rfl rfl)
theorem dL_law_1390 : decode cL_law 1390 = .ok (.iadd, 1) := dk_96 (dk_at dksL_law_50 17 rfl rfl)
theorem dL_law_1391 : decode cL_law 1391 = .ok (.iaload, 1) := dk_46 (dk_at dksL_law_50 18 rfl rfl)
theorem dL_law_1392 : decode cL_law 1392 = .ok (.aload_n 0, 1) := dk_42 (dk_at dksL_law_50 19 rfl rfl)
theorem dL_law_1393 : decode cL_law 1393 = .ok (.iload 4, 2) := dk_21 4 (dk_at dksL_law_50 20 rfl rfl)
theorem dL_law_1395 : decode cL_law 1395 = .ok (.iconst 2, 1) := dk_5 (dk_at dksL_law_50 22 rfl rfl)
theorem dL_law_1396 : decode cL_law 1396 = .ok (.iadd, 1) := dk_96 (dk_at dksL_law_50 23 rfl rfl)
theorem dL_law_1397 : decode cL_law 1397 = .ok (.iaload, 1) := dk_46 (dk_at dksL_law_51 0 rfl rfl)
theorem dL_law_1398 : decode cL_law 1398 = .ok (.aload_n 0, 1) := dk_42 (dk_at dksL_law_51 1 rfl rfl)
theorem dL_law_1399 : decode cL_law 1399 = .ok (.iload 4, 2) := dk_21 4 (dk_at dksL_law_51 2 rfl rfl)
theorem dL_law_1401 : decode cL_law 1401 = .ok (.iconst 3, 1) := dk_6 (dk_at dksL_law_51 4 rfl rfl)
theorem dL_law_1402 : decode cL_law 1402 = .ok (.iadd, 1) := dk_96 (dk_at dksL_law_51 5 rfl rfl)
theorem dL_law_1403 : decode cL_law 1403 = .ok (.iaload, 1) := dk_46 (dk_at dksL_law_51 6 rfl rfl)
theorem dL_law_1404 : decode cL_law 1404 = .ok (.ifCond .eq 7, 3) := dk_153 0 7 (dk_at dksL_law_51 7 rfl rfl)
theorem dL_law_1407 : decode cL_law 1407 = .ok (.iconst 1, 1) := dk_4 (dk_at dksL_law_51 10 rfl rfl)
theorem dL_law_1408 : decode cL_law 1408 = .ok (.goto 4, 3) := dk_167 0 4 (dk_at dksL_law_51 11 rfl rfl)
theorem dL_law_1411 : decode cL_law 1411 = .ok (.iconst 0, 1) := dk_3 (dk_at dksL_law_51 14 rfl rfl)
theorem dL_law_1412 : decode cL_law 1412 = .ok (.aload_n 0, 1) := dk_42 (dk_at dksL_law_51 15 rfl rfl)
theorem dL_law_1413 : decode cL_law 1413 = .ok (.iload 4, 2) := dk_21 4 (dk_at dksL_law_51 16 rfl rfl)
theorem dL_law_1415 : decode cL_law 1415 = .ok (.iconst 4, 1) := dk_7 (dk_at dksL_law_51 18 rfl rfl)
theorem dL_law_1416 : decode cL_law 1416 = .ok (.iadd, 1) := dk_96 (dk_at dksL_law_51 19 rfl rfl)
theorem dL_law_1417 : decode cL_law 1417 = .ok (.iaload, 1) := dk_46 (dk_at dksL_law_51 20 rfl rfl)
theorem dL_law_1418 : decode cL_law 1418 = .ok (.aload_n 3, 1) := dk_45 (dk_at dksL_law_51 21 rfl rfl)
theorem dL_law_1419 : decode cL_law 1419 = .ok (.invokestatic 208, 3) := dk_184 0 208 (dk_at dksL_law_52 0 rfl rfl)
theorem dL_law_1422 : decode cL_law 1422 = .ok (.istore 5, 2) := dk_54 5 (dk_at dksL_law_52 3 rfl rfl)
theorem dL_law_1424 : decode cL_law 1424 = .ok (.aload_n 2, 1) := dk_44 (dk_at dksL_law_52 5 rfl rfl)
theorem dL_law_1425 : decode cL_law 1425 = .ok (.aload_n 0, 1) := dk_42 (dk_at dksL_law_52 6 rfl rfl)
theorem dL_law_1426 : decode cL_law 1426 = .ok (.iload 4, 2) := dk_21 4 (dk_at dksL_law_52 7 rfl rfl)
theorem dL_law_1428 : decode cL_law 1428 = .ok (.iconst 1, 1) := dk_4 (dk_at dksL_law_52 9 rfl rfl)
theorem dL_law_1429 : decode cL_law 1429 = .ok (.iadd, 1) := dk_96 (dk_at dksL_law_52 10 rfl rfl)
theorem dL_law_1430 : decode cL_law 1430 = .ok (.iaload, 1) := dk_46 (dk_at dksL_law_52 11 rfl rfl)
theorem dL_law_1431 : decode cL_law 1431 = .ok (.aload_n 0, 1) := dk_42 (dk_at dksL_law_52 12 rfl rfl)
theorem dL_law_1432 : decode cL_law 1432 = .ok (.iload 4, 2) := dk_21 4 (dk_at dksL_law_52 13 rfl rfl)
theorem dL_law_1434 : decode cL_law 1434 = .ok (.iconst 2, 1) := dk_5 (dk_at dksL_law_52 15 rfl rfl)
theorem dL_law_1435 : decode cL_law 1435 = .ok (.iadd, 1) := dk_96 (dk_at dksL_law_52 16 rfl rfl)
theorem dL_law_1436 : decode cL_law 1436 = .ok (.iaload, 1) := dk_46 (dk_at dksL_law_52 17 rfl rfl)
theorem dL_law_1437 : decode cL_law 1437 = .ok (.aload_n 0, 1) := dk_42 (dk_at dksL_law_52 18 rfl rfl)
theorem dL_law_1438 : decode cL_law 1438 = .ok (.iload 4, 2) := dk_21 4 (dk_at dksL_law_52 19 rfl rfl)
theorem dL_law_1440 : decode cL_law 1440 = .ok (.iconst 3, 1) := dk_6 (dk_at dksL_law_52 21 rfl rfl)
theorem dL_law_1441 : decode cL_law 1441 = .ok (.iadd, 1) := dk_96 (dk_at dksL_law_52 22 rfl rfl)
theorem dL_law_1442 : decode cL_law 1442 = .ok (.iaload, 1) := dk_46 (dk_at dksL_law_52 23 rfl rfl)
theorem dL_law_1443 : decode cL_law 1443 = .ok (.ifCond .eq 7, 3) := dk_153 0 7 (dk_at dksL_law_53 0 rfl rfl)
theorem dL_law_1446 : decode cL_law 1446 = .ok (.iconst 1, 1) := dk_4 (dk_at dksL_law_53 3 rfl rfl)
theorem dL_law_1447 : decode cL_law 1447 = .ok (.goto 4, 3) := dk_167 0 4 (dk_at dksL_law_53 4 rfl rfl)
theorem dL_law_1450 : decode cL_law 1450 = .ok (.iconst 0, 1) := dk_3 (dk_at dksL_law_53 7 rfl rfl)
theorem dL_law_1451 : decode cL_law 1451 = .ok (.aload_n 0, 1) := dk_42 (dk_at dksL_law_53 8 rfl rfl)
theorem dL_law_1452 : decode cL_law 1452 = .ok (.iload 4, 2) := dk_21 4 (dk_at dksL_law_53 9 rfl rfl)
theorem dL_law_1454 : decode cL_law 1454 = .ok (.iconst 4, 1) := dk_7 (dk_at dksL_law_53 11 rfl rfl)
theorem dL_law_1455 : decode cL_law 1455 = .ok (.iadd, 1) := dk_96 (dk_at dksL_law_53 12 rfl rfl)
theorem dL_law_1456 : decode cL_law 1456 = .ok (.iaload, 1) := dk_46 (dk_at dksL_law_53 13 rfl rfl)
theorem dL_law_1457 : decode cL_law 1457 = .ok (.invokevirtual 211, 3) := dk_182 0 211 (dk_at dksL_law_53 14 rfl rfl)
theorem dL_law_1460 : decode cL_law 1460 = .ok (.istore 6, 2) := dk_54 6 (dk_at dksL_law_53 17 rfl rfl)
theorem dL_law_1462 : decode cL_law 1462 = .ok (.aload_n 2, 1) := dk_44 (dk_at dksL_law_53 19 rfl rfl)
theorem dL_law_1463 : decode cL_law 1463 = .ok (.invokevirtual 159, 3) := dk_182 0 159 (dk_at dksL_law_53 20 rfl rfl)
theorem dL_law_1466 : decode cL_law 1466 = .ok (.iload 5, 2) := dk_21 5 (dk_at dksL_law_54 0 rfl rfl)
theorem dL_law_1468 : decode cL_law 1468 = .ok (.if_icmp .eq 5, 3) := dk_159 0 5 (dk_at dksL_law_54 2 rfl rfl)
theorem dL_law_1471 : decode cL_law 1471 = .ok (.iconst 0, 1) := dk_3 (dk_at dksL_law_54 5 rfl rfl)
theorem dL_law_1472 : decode cL_law 1472 = .ok (.ireturn, 1) := dk_172 (dk_at dksL_law_54 6 rfl rfl)
theorem dL_law_1473 : decode cL_law 1473 = .ok (.iload 5, 2) := dk_21 5 (dk_at dksL_law_54 7 rfl rfl)
theorem dL_law_1475 : decode cL_law 1475 = .ok (.ifCond .ne 15, 3) := dk_154 0 15 (dk_at dksL_law_54 9 rfl rfl)
theorem dL_law_1478 : decode cL_law 1478 = .ok (.aload_n 3, 1) := dk_45 (dk_at dksL_law_54 12 rfl rfl)
theorem dL_law_1479 : decode cL_law 1479 = .ok (.iconst 0, 1) := dk_3 (dk_at dksL_law_54 13 rfl rfl)
theorem dL_law_1480 : decode cL_law 1480 = .ok (.laload, 1) := dk_47 (dk_at dksL_law_54 14 rfl rfl)
theorem dL_law_1481 : decode cL_law 1481 = .ok (.iload 6, 2) := dk_21 6 (dk_at dksL_law_54 15 rfl rfl)
theorem dL_law_1483 : decode cL_law 1483 = .ok (.i2l, 1) := dk_133 (dk_at dksL_law_54 17 rfl rfl)
theorem dL_law_1484 : decode cL_law 1484 = .ok (.lcmp, 1) := dk_148 (dk_at dksL_law_54 18 rfl rfl)
theorem dL_law_1485 : decode cL_law 1485 = .ok (.ifCond .eq 5, 3) := dk_153 0 5 (dk_at dksL_law_54 19 rfl rfl)
theorem dL_law_1488 : decode cL_law 1488 = .ok (.iconst 0, 1) := dk_3 (dk_at dksL_law_54 22 rfl rfl)
theorem dL_law_1489 : decode cL_law 1489 = .ok (.ireturn, 1) := dk_172 (dk_at dksL_law_54 23 rfl rfl)
theorem dL_law_1490 : decode cL_law 1490 = .ok (.goto 1694, 3) := dk_167 6 158 (dk_at dksL_law_55 0 rfl rfl)
theorem dL_law_1493 : decode cL_law 1493 = .ok (.aload_n 1, 1) := dk_43 (dk_at dksL_law_55 3 rfl rfl)
theorem dL_law_1494 : decode cL_law 1494 = .ok (.aload_n 0, 1) := dk_42 (dk_at dksL_law_55 4 rfl rfl)
theorem dL_law_1495 : decode cL_law 1495 = .ok (.iload 4, 2) := dk_21 4 (dk_at dksL_law_55 5 rfl rfl)
theorem dL_law_1497 : decode cL_law 1497 = .ok (.iconst 1, 1) := dk_4 (dk_at dksL_law_55 7 rfl rfl)
theorem dL_law_1498 : decode cL_law 1498 = .ok (.iadd, 1) := dk_96 (dk_at dksL_law_55 8 rfl rfl)
theorem dL_law_1499 : decode cL_law 1499 = .ok (.iaload, 1) := dk_46 (dk_at dksL_law_55 9 rfl rfl)
theorem dL_law_1500 : decode cL_law 1500 = .ok (.aload_n 3, 1) := dk_45 (dk_at dksL_law_55 10 rfl rfl)
theorem dL_law_1501 : decode cL_law 1501 = .ok (.invokestatic 212, 3) := dk_184 0 212 (dk_at dksL_law_55 11 rfl rfl)
theorem dL_law_1504 : decode cL_law 1504 = .ok (.istore 5, 2) := dk_54 5 (dk_at dksL_law_55 14 rfl rfl)
theorem dL_law_1506 : decode cL_law 1506 = .ok (.aload_n 2, 1) := dk_44 (dk_at dksL_law_55 16 rfl rfl)
theorem dL_law_1507 : decode cL_law 1507 = .ok (.aload_n 0, 1) := dk_42 (dk_at dksL_law_55 17 rfl rfl)
theorem dL_law_1508 : decode cL_law 1508 = .ok (.iload 4, 2) := dk_21 4 (dk_at dksL_law_55 18 rfl rfl)
theorem dL_law_1510 : decode cL_law 1510 = .ok (.iconst 1, 1) := dk_4 (dk_at dksL_law_55 20 rfl rfl)
theorem dL_law_1511 : decode cL_law 1511 = .ok (.iadd, 1) := dk_96 (dk_at dksL_law_55 21 rfl rfl)
theorem dL_law_1512 : decode cL_law 1512 = .ok (.iaload, 1) := dk_46 (dk_at dksL_law_55 22 rfl rfl)
theorem dL_law_1513 : decode cL_law 1513 = .ok (.invokevirtual 215, 3) := dk_182 0 215 (dk_at dksL_law_56 0 rfl rfl)
theorem dL_law_1516 : decode cL_law 1516 = .ok (.istore 6, 2) := dk_54 6 (dk_at dksL_law_56 3 rfl rfl)
theorem dL_law_1518 : decode cL_law 1518 = .ok (.aload_n 2, 1) := dk_44 (dk_at dksL_law_56 5 rfl rfl)
theorem dL_law_1519 : decode cL_law 1519 = .ok (.invokevirtual 159, 3) := dk_182 0 159 (dk_at dksL_law_56 6 rfl rfl)
theorem dL_law_1522 : decode cL_law 1522 = .ok (.iload 5, 2) := dk_21 5 (dk_at dksL_law_56 9 rfl rfl)
theorem dL_law_1524 : decode cL_law 1524 = .ok (.if_icmp .eq 5, 3) := dk_159 0 5 (dk_at dksL_law_56 11 rfl rfl)
theorem dL_law_1527 : decode cL_law 1527 = .ok (.iconst 0, 1) := dk_3 (dk_at dksL_law_56 14 rfl rfl)
theorem dL_law_1528 : decode cL_law 1528 = .ok (.ireturn, 1) := dk_172 (dk_at dksL_law_56 15 rfl rfl)
theorem dL_law_1529 : decode cL_law 1529 = .ok (.iload 5, 2) := dk_21 5 (dk_at dksL_law_56 16 rfl rfl)
theorem dL_law_1531 : decode cL_law 1531 = .ok (.ifCond .ne 15, 3) := dk_154 0 15 (dk_at dksL_law_56 18 rfl rfl)
theorem dL_law_1534 : decode cL_law 1534 = .ok (.aload_n 3, 1) := dk_45 (dk_at dksL_law_56 21 rfl rfl)
theorem dL_law_1535 : decode cL_law 1535 = .ok (.iconst 0, 1) := dk_3 (dk_at dksL_law_56 22 rfl rfl)
theorem dL_law_1536 : decode cL_law 1536 = .ok (.laload, 1) := dk_47 (dk_at dksL_law_56 23 rfl rfl)
theorem dL_law_1537 : decode cL_law 1537 = .ok (.iload 6, 2) := dk_21 6 (dk_at dksL_law_57 0 rfl rfl)
theorem dL_law_1539 : decode cL_law 1539 = .ok (.i2l, 1) := dk_133 (dk_at dksL_law_57 2 rfl rfl)
theorem dL_law_1540 : decode cL_law 1540 = .ok (.lcmp, 1) := dk_148 (dk_at dksL_law_57 3 rfl rfl)
theorem dL_law_1541 : decode cL_law 1541 = .ok (.ifCond .eq 5, 3) := dk_153 0 5 (dk_at dksL_law_57 4 rfl rfl)
theorem dL_law_1544 : decode cL_law 1544 = .ok (.iconst 0, 1) := dk_3 (dk_at dksL_law_57 7 rfl rfl)
theorem dL_law_1545 : decode cL_law 1545 = .ok (.ireturn, 1) := dk_172 (dk_at dksL_law_57 8 rfl rfl)
theorem dL_law_1546 : decode cL_law 1546 = .ok (.goto 1638, 3) := dk_167 6 102 (dk_at dksL_law_57 9 rfl rfl)
theorem dL_law_1549 : decode cL_law 1549 = .ok (.aload_n 1, 1) := dk_43 (dk_at dksL_law_57 12 rfl rfl)
theorem dL_law_1550 : decode cL_law 1550 = .ok (.aload_n 0, 1) := dk_42 (dk_at dksL_law_57 13 rfl rfl)
theorem dL_law_1551 : decode cL_law 1551 = .ok (.iload 4, 2) := dk_21 4 (dk_at dksL_law_57 14 rfl rfl)
theorem dL_law_1553 : decode cL_law 1553 = .ok (.iconst 1, 1) := dk_4 (dk_at dksL_law_57 16 rfl rfl)
theorem dL_law_1554 : decode cL_law 1554 = .ok (.iadd, 1) := dk_96 (dk_at dksL_law_57 17 rfl rfl)
theorem dL_law_1555 : decode cL_law 1555 = .ok (.iaload, 1) := dk_46 (dk_at dksL_law_57 18 rfl rfl)
theorem dL_law_1556 : decode cL_law 1556 = .ok (.ifCond .eq 7, 3) := dk_153 0 7 (dk_at dksL_law_57 19 rfl rfl)
theorem dL_law_1559 : decode cL_law 1559 = .ok (.iconst 1, 1) := dk_4 (dk_at dksL_law_57 22 rfl rfl)
theorem dL_law_1560 : decode cL_law 1560 = .ok (.goto 4, 3) := dk_167 0 4 (dk_at dksL_law_58 0 rfl rfl)
theorem dL_law_1563 : decode cL_law 1563 = .ok (.iconst 0, 1) := dk_3 (dk_at dksL_law_58 3 rfl rfl)
theorem dL_law_1564 : decode cL_law 1564 = .ok (.invokevirtual 216, 3) := dk_182 0 216 (dk_at dksL_law_58 4 rfl rfl)
theorem dL_law_1567 : decode cL_law 1567 = .ok (.aload_n 2, 1) := dk_44 (dk_at dksL_law_58 7 rfl rfl)
theorem dL_law_1568 : decode cL_law 1568 = .ok (.aload_n 0, 1) := dk_42 (dk_at dksL_law_58 8 rfl rfl)
theorem dL_law_1569 : decode cL_law 1569 = .ok (.iload 4, 2) := dk_21 4 (dk_at dksL_law_58 9 rfl rfl)
theorem dL_law_1571 : decode cL_law 1571 = .ok (.iconst 1, 1) := dk_4 (dk_at dksL_law_58 11 rfl rfl)
theorem dL_law_1572 : decode cL_law 1572 = .ok (.iadd, 1) := dk_96 (dk_at dksL_law_58 12 rfl rfl)
theorem dL_law_1573 : decode cL_law 1573 = .ok (.iaload, 1) := dk_46 (dk_at dksL_law_58 13 rfl rfl)
theorem dL_law_1574 : decode cL_law 1574 = .ok (.ifCond .eq 7, 3) := dk_153 0 7 (dk_at dksL_law_58 14 rfl rfl)
theorem dL_law_1577 : decode cL_law 1577 = .ok (.iconst 1, 1) := dk_4 (dk_at dksL_law_58 17 rfl rfl)
theorem dL_law_1578 : decode cL_law 1578 = .ok (.goto 4, 3) := dk_167 0 4 (dk_at dksL_law_58 18 rfl rfl)
theorem dL_law_1581 : decode cL_law 1581 = .ok (.iconst 0, 1) := dk_3 (dk_at dksL_law_58 21 rfl rfl)
theorem dL_law_1582 : decode cL_law 1582 = .ok (.invokevirtual 219, 3) := dk_182 0 219 (dk_at dksL_law_59 0 rfl rfl)
theorem dL_law_1585 : decode cL_law 1585 = .ok (.if_icmp .eq 1599, 3) := dk_159 6 63 (dk_at dksL_law_59 3 rfl rfl)
theorem dL_law_1588 : decode cL_law 1588 = .ok (.iconst 0, 1) := dk_3 (dk_at dksL_law_59 6 rfl rfl)
theorem dL_law_1589 : decode cL_law 1589 = .ok (.ireturn, 1) := dk_172 (dk_at dksL_law_59 7 rfl rfl)
theorem dL_law_1590 : decode cL_law 1590 = .ok (.aload_n 1, 1) := dk_43 (dk_at dksL_law_59 8 rfl rfl)
theorem dL_law_1591 : decode cL_law 1591 = .ok (.invokevirtual 220, 3) := dk_182 0 220 (dk_at dksL_law_59 9 rfl rfl)
theorem dL_law_1594 : decode cL_law 1594 = .ok (.aload_n 2, 1) := dk_44 (dk_at dksL_law_59 12 rfl rfl)
theorem dL_law_1595 : decode cL_law 1595 = .ok (.invokevirtual 223, 3) := dk_182 0 223 (dk_at dksL_law_59 13 rfl rfl)
theorem dL_law_1598 : decode cL_law 1598 = .ok (.if_icmp .eq 1586, 3) := dk_159 6 50 (dk_at dksL_law_59 16 rfl rfl)
theorem dL_law_1601 : decode cL_law 1601 = .ok (.iconst 0, 1) := dk_3 (dk_at dksL_law_59 19 rfl rfl)
theorem dL_law_1602 : decode cL_law 1602 = .ok (.ireturn, 1) := dk_172 (dk_at dksL_law_59 20 rfl rfl)
theorem dL_law_1603 : decode cL_law 1603 = .ok (.aload_n 1, 1) := dk_43 (dk_at dksL_law_59 21 rfl rfl)
theorem dL_law_1604 : decode cL_law 1604 = .ok (.invokevirtual 224, 3) := dk_182 0 224 (dk_at dksL_law_60 0 rfl rfl)
theorem dL_law_1607 : decode cL_law 1607 = .ok (.aload_n 2, 1) := dk_44 (dk_at dksL_law_60 3 rfl rfl)
theorem dL_law_1608 : decode cL_law 1608 = .ok (.invokevirtual 227, 3) := dk_182 0 227 (dk_at dksL_law_60 4 rfl rfl)
theorem dL_law_1611 : decode cL_law 1611 = .ok (.if_icmp .eq 1573, 3) := dk_159 6 37 (dk_at dksL_law_60 7 rfl rfl)
theorem dL_law_1614 : decode cL_law 1614 = .ok (.iconst 0, 1) := dk_3 (dk_at dksL_law_60 10 rfl rfl)
theorem dL_law_1615 : decode cL_law 1615 = .ok (.ireturn, 1) := dk_172 (dk_at dksL_law_60 11 rfl rfl)
theorem dL_law_1616 : decode cL_law 1616 = .ok (.aload_n 1, 1) := dk_43 (dk_at dksL_law_60 12 rfl rfl)
theorem dL_law_1617 : decode cL_law 1617 = .ok (.aload_n 0, 1) := dk_42 (dk_at dksL_law_60 13 rfl rfl)
theorem dL_law_1618 : decode cL_law 1618 = .ok (.iload 4, 2) := dk_21 4 (dk_at dksL_law_60 14 rfl rfl)
theorem dL_law_1620 : decode cL_law 1620 = .ok (.iconst 1, 1) := dk_4 (dk_at dksL_law_60 16 rfl rfl)
theorem dL_law_1621 : decode cL_law 1621 = .ok (.iadd, 1) := dk_96 (dk_at dksL_law_60 17 rfl rfl)
theorem dL_law_1622 : decode cL_law 1622 = .ok (.iaload, 1) := dk_46 (dk_at dksL_law_60 18 rfl rfl)
theorem dL_law_1623 : decode cL_law 1623 = .ok (.aload_n 3, 1) := dk_45 (dk_at dksL_law_60 19 rfl rfl)
theorem dL_law_1624 : decode cL_law 1624 = .ok (.invokestatic 228, 3) := dk_184 0 228 (dk_at dksL_law_60 20 rfl rfl)
theorem dL_law_1627 : decode cL_law 1627 = .ok (.istore 5, 2) := dk_54 5 (dk_at dksL_law_61 0 rfl rfl)
theorem dL_law_1629 : decode cL_law 1629 = .ok (.aload_n 2, 1) := dk_44 (dk_at dksL_law_61 2 rfl rfl)
theorem dL_law_1630 : decode cL_law 1630 = .ok (.aload_n 0, 1) := dk_42 (dk_at dksL_law_61 3 rfl rfl)
theorem dL_law_1631 : decode cL_law 1631 = .ok (.iload 4, 2) := dk_21 4 (dk_at dksL_law_61 4 rfl rfl)
theorem dL_law_1633 : decode cL_law 1633 = .ok (.iconst 1, 1) := dk_4 (dk_at dksL_law_61 6 rfl rfl)
theorem dL_law_1634 : decode cL_law 1634 = .ok (.iadd, 1) := dk_96 (dk_at dksL_law_61 7 rfl rfl)
theorem dL_law_1635 : decode cL_law 1635 = .ok (.iaload, 1) := dk_46 (dk_at dksL_law_61 8 rfl rfl)
theorem dL_law_1636 : decode cL_law 1636 = .ok (.invokevirtual 230, 3) := dk_182 0 230 (dk_at dksL_law_61 9 rfl rfl)
theorem dL_law_1639 : decode cL_law 1639 = .ok (.istore 6, 2) := dk_54 6 (dk_at dksL_law_61 12 rfl rfl)
theorem dL_law_1641 : decode cL_law 1641 = .ok (.aload_n 2, 1) := dk_44 (dk_at dksL_law_61 14 rfl rfl)
theorem dL_law_1642 : decode cL_law 1642 = .ok (.invokevirtual 159, 3) := dk_182 0 159 (dk_at dksL_law_61 15 rfl rfl)
theorem dL_law_1645 : decode cL_law 1645 = .ok (.iload 5, 2) := dk_21 5 (dk_at dksL_law_61 18 rfl rfl)
theorem dL_law_1647 : decode cL_law 1647 = .ok (.if_icmp .eq 5, 3) := dk_159 0 5 (dk_at dksL_law_61 20 rfl rfl)
theorem dL_law_1650 : decode cL_law 1650 = .ok (.iconst 0, 1) := dk_3 (dk_at dksL_law_61 23 rfl rfl)
theorem dL_law_1651 : decode cL_law 1651 = .ok (.ireturn, 1) := dk_172 (dk_at dksL_law_62 0 rfl rfl)
theorem dL_law_1652 : decode cL_law 1652 = .ok (.iload 5, 2) := dk_21 5 (dk_at dksL_law_62 1 rfl rfl)
theorem dL_law_1654 : decode cL_law 1654 = .ok (.ifCond .ne 15, 3) := dk_154 0 15 (dk_at dksL_law_62 3 rfl rfl)
theorem dL_law_1657 : decode cL_law 1657 = .ok (.aload_n 3, 1) := dk_45 (dk_at dksL_law_62 6 rfl rfl)
theorem dL_law_1658 : decode cL_law 1658 = .ok (.iconst 0, 1) := dk_3 (dk_at dksL_law_62 7 rfl rfl)
theorem dL_law_1659 : decode cL_law 1659 = .ok (.laload, 1) := dk_47 (dk_at dksL_law_62 8 rfl rfl)
theorem dL_law_1660 : decode cL_law 1660 = .ok (.iload 6, 2) := dk_21 6 (dk_at dksL_law_62 9 rfl rfl)
theorem dL_law_1662 : decode cL_law 1662 = .ok (.i2l, 1) := dk_133 (dk_at dksL_law_62 11 rfl rfl)
theorem dL_law_1663 : decode cL_law 1663 = .ok (.lcmp, 1) := dk_148 (dk_at dksL_law_62 12 rfl rfl)
theorem dL_law_1664 : decode cL_law 1664 = .ok (.ifCond .eq 5, 3) := dk_153 0 5 (dk_at dksL_law_62 13 rfl rfl)
theorem dL_law_1667 : decode cL_law 1667 = .ok (.iconst 0, 1) := dk_3 (dk_at dksL_law_62 16 rfl rfl)
theorem dL_law_1668 : decode cL_law 1668 = .ok (.ireturn, 1) := dk_172 (dk_at dksL_law_62 17 rfl rfl)
theorem dL_law_1669 : decode cL_law 1669 = .ok (.goto 1515, 3) := dk_167 5 235 (dk_at dksL_law_62 18 rfl rfl)
theorem dL_law_1672 : decode cL_law 1672 = .ok (.aload_n 1, 1) := dk_43 (dk_at dksL_law_62 21 rfl rfl)
theorem dL_law_1673 : decode cL_law 1673 = .ok (.aload_n 0, 1) := dk_42 (dk_at dksL_law_62 22 rfl rfl)
theorem dL_law_1674 : decode cL_law 1674 = .ok (.iload 4, 2) := dk_21 4 (dk_at dksL_law_63 0 rfl rfl)
theorem dL_law_1676 : decode cL_law 1676 = .ok (.iconst 1, 1) := dk_4 (dk_at dksL_law_63 2 rfl rfl)
theorem dL_law_1677 : decode cL_law 1677 = .ok (.iadd, 1) := dk_96 (dk_at dksL_law_63 3 rfl rfl)
theorem dL_law_1678 : decode cL_law 1678 = .ok (.iaload, 1) := dk_46 (dk_at dksL_law_63 4 rfl rfl)
theorem dL_law_1679 : decode cL_law 1679 = .ok (.aload_n 3, 1) := dk_45 (dk_at dksL_law_63 5 rfl rfl)
theorem dL_law_1680 : decode cL_law 1680 = .ok (.invokestatic 231, 3) := dk_184 0 231 (dk_at dksL_law_63 6 rfl rfl)
theorem dL_law_1683 : decode cL_law 1683 = .ok (.istore 5, 2) := dk_54 5 (dk_at dksL_law_63 9 rfl rfl)
theorem dL_law_1685 : decode cL_law 1685 = .ok (.aload_n 2, 1) := dk_44 (dk_at dksL_law_63 11 rfl rfl)
theorem dL_law_1686 : decode cL_law 1686 = .ok (.aload_n 0, 1) := dk_42 (dk_at dksL_law_63 12 rfl rfl)
theorem dL_law_1687 : decode cL_law 1687 = .ok (.iload 4, 2) := dk_21 4 (dk_at dksL_law_63 13 rfl rfl)
theorem dL_law_1689 : decode cL_law 1689 = .ok (.iconst 1, 1) := dk_4 (dk_at dksL_law_63 15 rfl rfl)
theorem dL_law_1690 : decode cL_law 1690 = .ok (.iadd, 1) := dk_96 (dk_at dksL_law_63 16 rfl rfl)
theorem dL_law_1691 : decode cL_law 1691 = .ok (.iaload, 1) := dk_46 (dk_at dksL_law_63 17 rfl rfl)
theorem dL_law_1692 : decode cL_law 1692 = .ok (.invokevirtual 233, 3) := dk_182 0 233 (dk_at dksL_law_63 18 rfl rfl)
theorem dL_law_1695 : decode cL_law 1695 = .ok (.istore 6, 2) := dk_54 6 (dk_at dksL_law_63 21 rfl rfl)
theorem dL_law_1697 : decode cL_law 1697 = .ok (.aload_n 2, 1) := dk_44 (dk_at dksL_law_63 23 rfl rfl)
theorem dL_law_1698 : decode cL_law 1698 = .ok (.invokevirtual 159, 3) := dk_182 0 159 (dk_at dksL_law_64 0 rfl rfl)
theorem dL_law_1701 : decode cL_law 1701 = .ok (.iload 5, 2) := dk_21 5 (dk_at dksL_law_64 3 rfl rfl)
theorem dL_law_1703 : decode cL_law 1703 = .ok (.if_icmp .eq 5, 3) := dk_159 0 5 (dk_at dksL_law_64 5 rfl rfl)
theorem dL_law_1706 : decode cL_law 1706 = .ok (.iconst 0, 1) := dk_3 (dk_at dksL_law_64 8 rfl rfl)
theorem dL_law_1707 : decode cL_law 1707 = .ok (.ireturn, 1) := dk_172 (dk_at dksL_law_64 9 rfl rfl)
theorem dL_law_1708 : decode cL_law 1708 = .ok (.iload 5, 2) := dk_21 5 (dk_at dksL_law_64 10 rfl rfl)
theorem dL_law_1710 : decode cL_law 1710 = .ok (.ifCond .ne 15, 3) := dk_154 0 15 (dk_at dksL_law_64 12 rfl rfl)
theorem dL_law_1713 : decode cL_law 1713 = .ok (.aload_n 3, 1) := dk_45 (dk_at dksL_law_64 15 rfl rfl)
theorem dL_law_1714 : decode cL_law 1714 = .ok (.iconst 0, 1) := dk_3 (dk_at dksL_law_64 16 rfl rfl)
theorem dL_law_1715 : decode cL_law 1715 = .ok (.laload, 1) := dk_47 (dk_at dksL_law_64 17 rfl rfl)
theorem dL_law_1716 : decode cL_law 1716 = .ok (.iload 6, 2) := dk_21 6 (dk_at dksL_law_64 18 rfl rfl)
theorem dL_law_1718 : decode cL_law 1718 = .ok (.i2l, 1) := dk_133 (dk_at dksL_law_64 20 rfl rfl)
theorem dL_law_1719 : decode cL_law 1719 = .ok (.lcmp, 1) := dk_148 (dk_at dksL_law_64 21 rfl rfl)
theorem dL_law_1720 : decode cL_law 1720 = .ok (.ifCond .eq 5, 3) := dk_153 0 5 (dk_at dksL_law_65 0 rfl rfl)
theorem dL_law_1723 : decode cL_law 1723 = .ok (.iconst 0, 1) := dk_3 (dk_at dksL_law_65 3 rfl rfl)
theorem dL_law_1724 : decode cL_law 1724 = .ok (.ireturn, 1) := dk_172 (dk_at dksL_law_65 4 rfl rfl)
theorem dL_law_1725 : decode cL_law 1725 = .ok (.goto 1459, 3) := dk_167 5 179 (dk_at dksL_law_65 5 rfl rfl)
theorem dL_law_1728 : decode cL_law 1728 = .ok (.aload_n 1, 1) := dk_43 (dk_at dksL_law_65 8 rfl rfl)
theorem dL_law_1729 : decode cL_law 1729 = .ok (.invokevirtual 234, 3) := dk_182 0 234 (dk_at dksL_law_65 9 rfl rfl)
theorem dL_law_1732 : decode cL_law 1732 = .ok (.aload_n 2, 1) := dk_44 (dk_at dksL_law_65 12 rfl rfl)
theorem dL_law_1733 : decode cL_law 1733 = .ok (.invokevirtual 237, 3) := dk_182 0 237 (dk_at dksL_law_65 13 rfl rfl)
theorem dL_law_1736 : decode cL_law 1736 = .ok (.if_icmp .eq 1448, 3) := dk_159 5 168 (dk_at dksL_law_65 16 rfl rfl)
theorem dL_law_1739 : decode cL_law 1739 = .ok (.iconst 0, 1) := dk_3 (dk_at dksL_law_65 19 rfl rfl)
theorem dL_law_1740 : decode cL_law 1740 = .ok (.ireturn, 1) := dk_172 (dk_at dksL_law_65 20 rfl rfl)
theorem dL_law_1741 : decode cL_law 1741 = .ok (.aload_n 1, 1) := dk_43 (dk_at dksL_law_65 21 rfl rfl)
theorem dL_law_1742 : decode cL_law 1742 = .ok (.aload_n 3, 1) := dk_45 (dk_at dksL_law_65 22 rfl rfl)
theorem dL_law_1743 : decode cL_law 1743 = .ok (.invokestatic 238, 3) := dk_184 0 238 (dk_at dksL_law_66 0 rfl rfl)
theorem dL_law_1746 : decode cL_law 1746 = .ok (.istore 5, 2) := dk_54 5 (dk_at dksL_law_66 3 rfl rfl)
theorem dL_law_1748 : decode cL_law 1748 = .ok (.aload_n 2, 1) := dk_44 (dk_at dksL_law_66 5 rfl rfl)
theorem dL_law_1749 : decode cL_law 1749 = .ok (.invokevirtual 240, 3) := dk_182 0 240 (dk_at dksL_law_66 6 rfl rfl)
theorem dL_law_1752 : decode cL_law 1752 = .ok (.istore 6, 2) := dk_54 6 (dk_at dksL_law_66 9 rfl rfl)
theorem dL_law_1754 : decode cL_law 1754 = .ok (.aload_n 2, 1) := dk_44 (dk_at dksL_law_66 11 rfl rfl)
theorem dL_law_1755 : decode cL_law 1755 = .ok (.invokevirtual 159, 3) := dk_182 0 159 (dk_at dksL_law_66 12 rfl rfl)
theorem dL_law_1758 : decode cL_law 1758 = .ok (.iload 5, 2) := dk_21 5 (dk_at dksL_law_66 15 rfl rfl)
theorem dL_law_1760 : decode cL_law 1760 = .ok (.if_icmp .eq 5, 3) := dk_159 0 5 (dk_at dksL_law_66 17 rfl rfl)
theorem dL_law_1763 : decode cL_law 1763 = .ok (.iconst 0, 1) := dk_3 (dk_at dksL_law_66 20 rfl rfl)
theorem dL_law_1764 : decode cL_law 1764 = .ok (.ireturn, 1) := dk_172 (dk_at dksL_law_66 21 rfl rfl)
theorem dL_law_1765 : decode cL_law 1765 = .ok (.iload 5, 2) := dk_21 5 (dk_at dksL_law_66 22 rfl rfl)
theorem dL_law_1767 : decode cL_law 1767 = .ok (.ifCond .ne 15, 3) := dk_154 0 15 (dk_at dksL_law_67 0 rfl rfl)
theorem dL_law_1770 : decode cL_law 1770 = .ok (.aload_n 3, 1) := dk_45 (dk_at dksL_law_67 3 rfl rfl)
theorem dL_law_1771 : decode cL_law 1771 = .ok (.iconst 0, 1) := dk_3 (dk_at dksL_law_67 4 rfl rfl)
theorem dL_law_1772 : decode cL_law 1772 = .ok (.laload, 1) := dk_47 (dk_at dksL_law_67 5 rfl rfl)
theorem dL_law_1773 : decode cL_law 1773 = .ok (.iload 6, 2) := dk_21 6 (dk_at dksL_law_67 6 rfl rfl)
theorem dL_law_1775 : decode cL_law 1775 = .ok (.i2l, 1) := dk_133 (dk_at dksL_law_67 8 rfl rfl)
theorem dL_law_1776 : decode cL_law 1776 = .ok (.lcmp, 1) := dk_148 (dk_at dksL_law_67 9 rfl rfl)
theorem dL_law_1777 : decode cL_law 1777 = .ok (.ifCond .eq 5, 3) := dk_153 0 5 (dk_at dksL_law_67 10 rfl rfl)
theorem dL_law_1780 : decode cL_law 1780 = .ok (.iconst 0, 1) := dk_3 (dk_at dksL_law_67 13 rfl rfl)
theorem dL_law_1781 : decode cL_law 1781 = .ok (.ireturn, 1) := dk_172 (dk_at dksL_law_67 14 rfl rfl)
theorem dL_law_1782 : decode cL_law 1782 = .ok (.goto 1402, 3) := dk_167 5 122 (dk_at dksL_law_67 15 rfl rfl)
theorem dL_law_1785 : decode cL_law 1785 = .ok (.aload_n 1, 1) := dk_43 (dk_at dksL_law_67 18 rfl rfl)
theorem dL_law_1786 : decode cL_law 1786 = .ok (.aload_n 0, 1) := dk_42 (dk_at dksL_law_67 19 rfl rfl)
theorem dL_law_1787 : decode cL_law 1787 = .ok (.iload 4, 2) := dk_21 4 (dk_at dksL_law_67 20 rfl rfl)
theorem dL_law_1789 : decode cL_law 1789 = .ok (.iconst 1, 1) := dk_4 (dk_at dksL_law_67 22 rfl rfl)
theorem dL_law_1790 : decode cL_law 1790 = .ok (.iadd, 1) := dk_96 (dk_at dksL_law_67 23 rfl rfl)
theorem dL_law_1791 : decode cL_law 1791 = .ok (.iaload, 1) := dk_46 (dk_at dksL_law_68 0 rfl rfl)
theorem dL_law_1792 : decode cL_law 1792 = .ok (.aload_n 0, 1) := dk_42 (dk_at dksL_law_68 1 rfl rfl)
theorem dL_law_1793 : decode cL_law 1793 = .ok (.iload 4, 2) := dk_21 4 (dk_at dksL_law_68 2 rfl rfl)
theorem dL_law_1795 : decode cL_law 1795 = .ok (.iconst 2, 1) := dk_5 (dk_at dksL_law_68 4 rfl rfl)
theorem dL_law_1796 : decode cL_law 1796 = .ok (.iadd, 1) := dk_96 (dk_at dksL_law_68 5 rfl rfl)
theorem dL_law_1797 : decode cL_law 1797 = .ok (.iaload, 1) := dk_46 (dk_at dksL_law_68 6 rfl rfl)
theorem dL_law_1798 : decode cL_law 1798 = .ok (.aload_n 0, 1) := dk_42 (dk_at dksL_law_68 7 rfl rfl)
theorem dL_law_1799 : decode cL_law 1799 = .ok (.iload 4, 2) := dk_21 4 (dk_at dksL_law_68 8 rfl rfl)
theorem dL_law_1801 : decode cL_law 1801 = .ok (.iconst 3, 1) := dk_6 (dk_at dksL_law_68 10 rfl rfl)
theorem dL_law_1802 : decode cL_law 1802 = .ok (.iadd, 1) := dk_96 (dk_at dksL_law_68 11 rfl rfl)
theorem dL_law_1803 : decode cL_law 1803 = .ok (.iaload, 1) := dk_46 (dk_at dksL_law_68 12 rfl rfl)
theorem dL_law_1804 : decode cL_law 1804 = .ok (.ifCond .eq 7, 3) := dk_153 0 7 (dk_at dksL_law_68 13 rfl rfl)
theorem dL_law_1807 : decode cL_law 1807 = .ok (.iconst 1, 1) := dk_4 (dk_at dksL_law_68 16 rfl rfl)
theorem dL_law_1808 : decode cL_law 1808 = .ok (.goto 4, 3) := dk_167 0 4 (dk_at dksL_law_68 17 rfl rfl)
theorem dL_law_1811 : decode cL_law 1811 = .ok (.iconst 0, 1) := dk_3 (dk_at dksL_law_68 20 rfl rfl)
theorem dL_law_1812 : decode cL_law 1812 = .ok (.aload_n 3, 1) := dk_45 (dk_at dksL_law_68 21 rfl rfl)
theorem dL_law_1813 : decode cL_law 1813 = .ok (.invokestatic 241, 3) := dk_184 0 241 (dk_at dksL_law_69 0 rfl rfl)
theorem dL_law_1816 : decode cL_law 1816 = .ok (.istore 5, 2) := dk_54 5 (dk_at dksL_law_69 3 rfl rfl)
theorem dL_law_1818 : decode cL_law 1818 = .ok (.aload_n 2, 1) := dk_44 (dk_at dksL_law_69 5 rfl rfl)
theorem dL_law_1819 : decode cL_law 1819 = .ok (.aload_n 0, 1) := dk_42 (dk_at dksL_law_69 6 rfl rfl)
theorem dL_law_1820 : decode cL_law 1820 = .ok (.iload 4, 2) := dk_21 4 (dk_at dksL_law_69 7 rfl rfl)
theorem dL_law_1822 : decode cL_law 1822 = .ok (.iconst 1, 1) := dk_4 (dk_at dksL_law_69 9 rfl rfl)
theorem dL_law_1823 : decode cL_law 1823 = .ok (.iadd, 1) := dk_96 (dk_at dksL_law_69 10 rfl rfl)
theorem dL_law_1824 : decode cL_law 1824 = .ok (.iaload, 1) := dk_46 (dk_at dksL_law_69 11 rfl rfl)
theorem dL_law_1825 : decode cL_law 1825 = .ok (.aload_n 0, 1) := dk_42 (dk_at dksL_law_69 12 rfl rfl)
theorem dL_law_1826 : decode cL_law 1826 = .ok (.iload 4, 2) := dk_21 4 (dk_at dksL_law_69 13 rfl rfl)
theorem dL_law_1828 : decode cL_law 1828 = .ok (.iconst 2, 1) := dk_5 (dk_at dksL_law_69 15 rfl rfl)
theorem dL_law_1829 : decode cL_law 1829 = .ok (.iadd, 1) := dk_96 (dk_at dksL_law_69 16 rfl rfl)
theorem dL_law_1830 : decode cL_law 1830 = .ok (.iaload, 1) := dk_46 (dk_at dksL_law_69 17 rfl rfl)
theorem dL_law_1831 : decode cL_law 1831 = .ok (.aload_n 0, 1) := dk_42 (dk_at dksL_law_69 18 rfl rfl)
theorem dL_law_1832 : decode cL_law 1832 = .ok (.iload 4, 2) := dk_21 4 (dk_at dksL_law_69 19 rfl rfl)
theorem dL_law_1834 : decode cL_law 1834 = .ok (.iconst 3, 1) := dk_6 (dk_at dksL_law_69 21 rfl rfl)
theorem dL_law_1835 : decode cL_law 1835 = .ok (.iadd, 1) := dk_96 (dk_at dksL_law_69 22 rfl rfl)
theorem dL_law_1836 : decode cL_law 1836 = .ok (.iaload, 1) := dk_46 (dk_at dksL_law_69 23 rfl rfl)
theorem dL_law_1837 : decode cL_law 1837 = .ok (.ifCond .eq 7, 3) := dk_153 0 7 (dk_at dksL_law_70 0 rfl rfl)
theorem dL_law_1840 : decode cL_law 1840 = .ok (.iconst 1, 1) := dk_4 (dk_at dksL_law_70 3 rfl rfl)
theorem dL_law_1841 : decode cL_law 1841 = .ok (.goto 4, 3) := dk_167 0 4 (dk_at dksL_law_70 4 rfl rfl)
theorem dL_law_1844 : decode cL_law 1844 = .ok (.iconst 0, 1) := dk_3 (dk_at dksL_law_70 7 rfl rfl)
theorem dL_law_1845 : decode cL_law 1845 = .ok (.invokevirtual 243, 3) := dk_182 0 243 (dk_at dksL_law_70 8 rfl rfl)
theorem dL_law_1848 : decode cL_law 1848 = .ok (.istore 6, 2) := dk_54 6 (dk_at dksL_law_70 11 rfl rfl)
theorem dL_law_1850 : decode cL_law 1850 = .ok (.aload_n 2, 1) := dk_44 (dk_at dksL_law_70 13 rfl rfl)
theorem dL_law_1851 : decode cL_law 1851 = .ok (.invokevirtual 159, 3) := dk_182 0 159 (dk_at dksL_law_70 14 rfl rfl)
theorem dL_law_1854 : decode cL_law 1854 = .ok (.iload 5, 2) := dk_21 5 (dk_at dksL_law_70 17 rfl rfl)
theorem dL_law_1856 : decode cL_law 1856 = .ok (.if_icmp .eq 5, 3) := dk_159 0 5 (dk_at dksL_law_70 19 rfl rfl)
theorem dL_law_1859 : decode cL_law 1859 = .ok (.iconst 0, 1) := dk_3 (dk_at dksL_law_70 22 rfl rfl)
theorem dL_law_1860 : decode cL_law 1860 = .ok (.ireturn, 1) := dk_172 (dk_at dksL_law_70 23 rfl rfl)
theorem dL_law_1861 : decode cL_law 1861 = .ok (.iload 5, 2) := dk_21 5 (dk_at dksL_law_71 0 rfl rfl)
theorem dL_law_1863 : decode cL_law 1863 = .ok (.ifCond .ne 15, 3) := dk_154 0 15 (dk_at dksL_law_71 2 rfl rfl)
theorem dL_law_1866 : decode cL_law 1866 = .ok (.aload_n 3, 1) := dk_45 (dk_at dksL_law_71 5 rfl rfl)
theorem dL_law_1867 : decode cL_law 1867 = .ok (.iconst 0, 1) := dk_3 (dk_at dksL_law_71 6 rfl rfl)
theorem dL_law_1868 : decode cL_law 1868 = .ok (.laload, 1) := dk_47 (dk_at dksL_law_71 7 rfl rfl)
theorem dL_law_1869 : decode cL_law 1869 = .ok (.iload 6, 2) := dk_21 6 (dk_at dksL_law_71 8 rfl rfl)
theorem dL_law_1871 : decode cL_law 1871 = .ok (.i2l, 1) := dk_133 (dk_at dksL_law_71 10 rfl rfl)
theorem dL_law_1872 : decode cL_law 1872 = .ok (.lcmp, 1) := dk_148 (dk_at dksL_law_71 11 rfl rfl)
theorem dL_law_1873 : decode cL_law 1873 = .ok (.ifCond .eq 5, 3) := dk_153 0 5 (dk_at dksL_law_71 12 rfl rfl)
theorem dL_law_1876 : decode cL_law 1876 = .ok (.iconst 0, 1) := dk_3 (dk_at dksL_law_71 15 rfl rfl)
theorem dL_law_1877 : decode cL_law 1877 = .ok (.ireturn, 1) := dk_172 (dk_at dksL_law_71 16 rfl rfl)
theorem dL_law_1878 : decode cL_law 1878 = .ok (.goto 1306, 3) := dk_167 5 26 (dk_at dksL_law_71 17 rfl rfl)
theorem dL_law_1881 : decode cL_law 1881 = .ok (.aload_n 1, 1) := dk_43 (dk_at dksL_law_71 20 rfl rfl)
theorem dL_law_1882 : decode cL_law 1882 = .ok (.aload_n 0, 1) := dk_42 (dk_at dksL_law_71 21 rfl rfl)
theorem dL_law_1883 : decode cL_law 1883 = .ok (.iload 4, 2) := dk_21 4 (dk_at dksL_law_71 22 rfl rfl)
theorem dL_law_1885 : decode cL_law 1885 = .ok (.iconst 1, 1) := dk_4 (dk_at dksL_law_72 0 rfl rfl)
theorem dL_law_1886 : decode cL_law 1886 = .ok (.iadd, 1) := dk_96 (dk_at dksL_law_72 1 rfl rfl)
theorem dL_law_1887 : decode cL_law 1887 = .ok (.iaload, 1) := dk_46 (dk_at dksL_law_72 2 rfl rfl)
theorem dL_law_1888 : decode cL_law 1888 = .ok (.aload_n 0, 1) := dk_42 (dk_at dksL_law_72 3 rfl rfl)
theorem dL_law_1889 : decode cL_law 1889 = .ok (.iload 4, 2) := dk_21 4 (dk_at dksL_law_72 4 rfl rfl)
theorem dL_law_1891 : decode cL_law 1891 = .ok (.iconst 2, 1) := dk_5 (dk_at dksL_law_72 6 rfl rfl)
theorem dL_law_1892 : decode cL_law 1892 = .ok (.iadd, 1) := dk_96 (dk_at dksL_law_72 7 rfl rfl)
theorem dL_law_1893 : decode cL_law 1893 = .ok (.iaload, 1) := dk_46 (dk_at dksL_law_72 8 rfl rfl)
theorem dL_law_1894 : decode cL_law 1894 = .ok (.aload_n 3, 1) := dk_45 (dk_at dksL_law_72 9 rfl rfl)
theorem dL_law_1895 : decode cL_law 1895 = .ok (.invokestatic 244, 3) := dk_184 0 244 (dk_at dksL_law_72 10 rfl rfl)
theorem dL_law_1898 : decode cL_law 1898 = .ok (.istore 5, 2) := dk_54 5 (dk_at dksL_law_72 13 rfl rfl)
theorem dL_law_1900 : decode cL_law 1900 = .ok (.aload_n 2, 1) := dk_44 (dk_at dksL_law_72 15 rfl rfl)
theorem dL_law_1901 : decode cL_law 1901 = .ok (.aload_n 0, 1) := dk_42 (dk_at dksL_law_72 16 rfl rfl)
theorem dL_law_1902 : decode cL_law 1902 = .ok (.iload 4, 2) := dk_21 4 (dk_at dksL_law_72 17 rfl rfl)
theorem dL_law_1904 : decode cL_law 1904 = .ok (.iconst 1, 1) := dk_4 (dk_at dksL_law_72 19 rfl rfl)
theorem dL_law_1905 : decode cL_law 1905 = .ok (.iadd, 1) := dk_96 (dk_at dksL_law_72 20 rfl rfl)
theorem dL_law_1906 : decode cL_law 1906 = .ok (.iaload, 1) := dk_46 (dk_at dksL_law_72 21 rfl rfl)
theorem dL_law_1907 : decode cL_law 1907 = .ok (.aload_n 0, 1) := dk_42 (dk_at dksL_law_72 22 rfl rfl)
theorem dL_law_1908 : decode cL_law 1908 = .ok (.iload 4, 2) := dk_21 4 (dk_at dksL_law_73 0 rfl rfl)
theorem dL_law_1910 : decode cL_law 1910 = .ok (.iconst 2, 1) := dk_5 (dk_at dksL_law_73 2 rfl rfl)
theorem dL_law_1911 : decode cL_law 1911 = .ok (.iadd, 1) := dk_96 (dk_at dksL_law_73 3 rfl rfl)
theorem dL_law_1912 : decode cL_law 1912 = .ok (.iaload, 1) := dk_46 (dk_at dksL_law_73 4 rfl rfl)
theorem dL_law_1913 : decode cL_law 1913 = .ok (.invokevirtual 246, 3) := dk_182 0 246 (dk_at dksL_law_73 5 rfl rfl)
theorem dL_law_1916 : decode cL_law 1916 = .ok (.istore 6, 2) := dk_54 6 (dk_at dksL_law_73 8 rfl rfl)
theorem dL_law_1918 : decode cL_law 1918 = .ok (.aload_n 2, 1) := dk_44 (dk_at dksL_law_73 10 rfl rfl)
theorem dL_law_1919 : decode cL_law 1919 = .ok (.invokevirtual 159, 3) := dk_182 0 159 (dk_at dksL_law_73 11 rfl rfl)
theorem dL_law_1922 : decode cL_law 1922 = .ok (.iload 5, 2) := dk_21 5 (dk_at dksL_law_73 14 rfl rfl)
theorem dL_law_1924 : decode cL_law 1924 = .ok (.if_icmp .eq 5, 3) := dk_159 0 5 (dk_at dksL_law_73 16 rfl rfl)
theorem dL_law_1927 : decode cL_law 1927 = .ok (.iconst 0, 1) := dk_3 (dk_at dksL_law_73 19 rfl rfl)
theorem dL_law_1928 : decode cL_law 1928 = .ok (.ireturn, 1) := dk_172 (dk_at dksL_law_73 20 rfl rfl)
theorem dL_law_1929 : decode cL_law 1929 = .ok (.iload 5, 2) := dk_21 5 (dk_at dksL_law_73 21 rfl rfl)
theorem dL_law_1931 : decode cL_law 1931 = .ok (.ifCond .ne 15, 3) := dk_154 0 15 (dk_at dksL_law_74 0 rfl rfl)
theorem dL_law_1934 : decode cL_law 1934 = .ok (.aload_n 3, 1) := dk_45 (dk_at dksL_law_74 3 rfl rfl)
theorem dL_law_1935 : decode cL_law 1935 = .ok (.iconst 0, 1) := dk_3 (dk_at dksL_law_74 4 rfl rfl)
theorem dL_law_1936 : decode cL_law 1936 = .ok (.laload, 1) := dk_47 (dk_at dksL_law_74 5 rfl rfl)
theorem dL_law_1937 : decode cL_law 1937 = .ok (.iload 6, 2) := dk_21 6 (dk_at dksL_law_74 6 rfl rfl)
theorem dL_law_1939 : decode cL_law 1939 = .ok (.i2l, 1) := dk_133 (dk_at dksL_law_74 8 rfl rfl)
theorem dL_law_1940 : decode cL_law 1940 = .ok (.lcmp, 1) := dk_148 (dk_at dksL_law_74 9 rfl rfl)
theorem dL_law_1941 : decode cL_law 1941 = .ok (.ifCond .eq 5, 3) := dk_153 0 5 (dk_at dksL_law_74 10 rfl rfl)
theorem dL_law_1944 : decode cL_law 1944 = .ok (.iconst 0, 1) := dk_3 (dk_at dksL_law_74 13 rfl rfl)
theorem dL_law_1945 : decode cL_law 1945 = .ok (.ireturn, 1) := dk_172 (dk_at dksL_law_74 14 rfl rfl)
theorem dL_law_1946 : decode cL_law 1946 = .ok (.goto 1238, 3) := dk_167 4 214 (dk_at dksL_law_74 15 rfl rfl)
theorem dL_law_1949 : decode cL_law 1949 = .ok (.aload_n 1, 1) := dk_43 (dk_at dksL_law_74 18 rfl rfl)
theorem dL_law_1950 : decode cL_law 1950 = .ok (.aload_n 0, 1) := dk_42 (dk_at dksL_law_74 19 rfl rfl)
theorem dL_law_1951 : decode cL_law 1951 = .ok (.iload 4, 2) := dk_21 4 (dk_at dksL_law_74 20 rfl rfl)
theorem dL_law_1953 : decode cL_law 1953 = .ok (.iconst 1, 1) := dk_4 (dk_at dksL_law_74 22 rfl rfl)
theorem dL_law_1954 : decode cL_law 1954 = .ok (.iadd, 1) := dk_96 (dk_at dksL_law_74 23 rfl rfl)
theorem dL_law_1955 : decode cL_law 1955 = .ok (.iaload, 1) := dk_46 (dk_at dksL_law_75 0 rfl rfl)
theorem dL_law_1956 : decode cL_law 1956 = .ok (.ifCond .eq 7, 3) := dk_153 0 7 (dk_at dksL_law_75 1 rfl rfl)
theorem dL_law_1959 : decode cL_law 1959 = .ok (.iconst 1, 1) := dk_4 (dk_at dksL_law_75 4 rfl rfl)
theorem dL_law_1960 : decode cL_law 1960 = .ok (.goto 4, 3) := dk_167 0 4 (dk_at dksL_law_75 5 rfl rfl)
theorem dL_law_1963 : decode cL_law 1963 = .ok (.iconst 0, 1) := dk_3 (dk_at dksL_law_75 8 rfl rfl)
theorem dL_law_1964 : decode cL_law 1964 = .ok (.aload_n 3, 1) := dk_45 (dk_at dksL_law_75 9 rfl rfl)
theorem dL_law_1965 : decode cL_law 1965 = .ok (.invokestatic 247, 3) := dk_184 0 247 (dk_at dksL_law_75 10 rfl rfl)
theorem dL_law_1968 : decode cL_law 1968 = .ok (.istore 5, 2) := dk_54 5 (dk_at dksL_law_75 13 rfl rfl)
theorem dL_law_1970 : decode cL_law 1970 = .ok (.aload_n 2, 1) := dk_44 (dk_at dksL_law_75 15 rfl rfl)
theorem dL_law_1971 : decode cL_law 1971 = .ok (.aload_n 0, 1) := dk_42 (dk_at dksL_law_75 16 rfl rfl)
theorem dL_law_1972 : decode cL_law 1972 = .ok (.iload 4, 2) := dk_21 4 (dk_at dksL_law_75 17 rfl rfl)
theorem dL_law_1974 : decode cL_law 1974 = .ok (.iconst 1, 1) := dk_4 (dk_at dksL_law_75 19 rfl rfl)
theorem dL_law_1975 : decode cL_law 1975 = .ok (.iadd, 1) := dk_96 (dk_at dksL_law_75 20 rfl rfl)
theorem dL_law_1976 : decode cL_law 1976 = .ok (.iaload, 1) := dk_46 (dk_at dksL_law_75 21 rfl rfl)
theorem dL_law_1977 : decode cL_law 1977 = .ok (.ifCond .eq 7, 3) := dk_153 0 7 (dk_at dksL_law_76 0 rfl rfl)
theorem dL_law_1980 : decode cL_law 1980 = .ok (.iconst 1, 1) := dk_4 (dk_at dksL_law_76 3 rfl rfl)
theorem dL_law_1981 : decode cL_law 1981 = .ok (.goto 4, 3) := dk_167 0 4 (dk_at dksL_law_76 4 rfl rfl)
theorem dL_law_1984 : decode cL_law 1984 = .ok (.iconst 0, 1) := dk_3 (dk_at dksL_law_76 7 rfl rfl)
theorem dL_law_1985 : decode cL_law 1985 = .ok (.invokevirtual 250, 3) := dk_182 0 250 (dk_at dksL_law_76 8 rfl rfl)
theorem dL_law_1988 : decode cL_law 1988 = .ok (.istore 6, 2) := dk_54 6 (dk_at dksL_law_76 11 rfl rfl)
theorem dL_law_1990 : decode cL_law 1990 = .ok (.aload_n 2, 1) := dk_44 (dk_at dksL_law_76 13 rfl rfl)
theorem dL_law_1991 : decode cL_law 1991 = .ok (.invokevirtual 159, 3) := dk_182 0 159 (dk_at dksL_law_76 14 rfl rfl)
theorem dL_law_1994 : decode cL_law 1994 = .ok (.iload 5, 2) := dk_21 5 (dk_at dksL_law_76 17 rfl rfl)
theorem dL_law_1996 : decode cL_law 1996 = .ok (.if_icmp .eq 5, 3) := dk_159 0 5 (dk_at dksL_law_76 19 rfl rfl)
theorem dL_law_1999 : decode cL_law 1999 = .ok (.iconst 0, 1) := dk_3 (dk_at dksL_law_76 22 rfl rfl)
theorem dL_law_2000 : decode cL_law 2000 = .ok (.ireturn, 1) := dk_172 (dk_at dksL_law_76 23 rfl rfl)
theorem dL_law_2001 : decode cL_law 2001 = .ok (.iload 5, 2) := dk_21 5 (dk_at dksL_law_77 0 rfl rfl)
theorem dL_law_2003 : decode cL_law 2003 = .ok (.ifCond .ne 15, 3) := dk_154 0 15 (dk_at dksL_law_77 2 rfl rfl)
theorem dL_law_2006 : decode cL_law 2006 = .ok (.aload_n 3, 1) := dk_45 (dk_at dksL_law_77 5 rfl rfl)
theorem dL_law_2007 : decode cL_law 2007 = .ok (.iconst 0, 1) := dk_3 (dk_at dksL_law_77 6 rfl rfl)
theorem dL_law_2008 : decode cL_law 2008 = .ok (.laload, 1) := dk_47 (dk_at dksL_law_77 7 rfl rfl)
theorem dL_law_2009 : decode cL_law 2009 = .ok (.iload 6, 2) := dk_21 6 (dk_at dksL_law_77 8 rfl rfl)
theorem dL_law_2011 : decode cL_law 2011 = .ok (.i2l, 1) := dk_133 (dk_at dksL_law_77 10 rfl rfl)
theorem dL_law_2012 : decode cL_law 2012 = .ok (.lcmp, 1) := dk_148 (dk_at dksL_law_77 11 rfl rfl)
theorem dL_law_2013 : decode cL_law 2013 = .ok (.ifCond .eq 5, 3) := dk_153 0 5 (dk_at dksL_law_77 12 rfl rfl)
theorem dL_law_2016 : decode cL_law 2016 = .ok (.iconst 0, 1) := dk_3 (dk_at dksL_law_77 15 rfl rfl)
theorem dL_law_2017 : decode cL_law 2017 = .ok (.ireturn, 1) := dk_172 (dk_at dksL_law_77 16 rfl rfl)
theorem dL_law_2018 : decode cL_law 2018 = .ok (.goto 1166, 3) := dk_167 4 142 (dk_at dksL_law_77 17 rfl rfl)
theorem dL_law_2021 : decode cL_law 2021 = .ok (.aload_n 1, 1) := dk_43 (dk_at dksL_law_77 20 rfl rfl)
theorem dL_law_2022 : decode cL_law 2022 = .ok (.aload_n 3, 1) := dk_45 (dk_at dksL_law_77 21 rfl rfl)
theorem dL_law_2023 : decode cL_law 2023 = .ok (.invokestatic 251, 3) := dk_184 0 251 (dk_at dksL_law_78 0 rfl rfl)
theorem dL_law_2026 : decode cL_law 2026 = .ok (.istore 5, 2) := dk_54 5 (dk_at dksL_law_78 3 rfl rfl)
theorem dL_law_2028 : decode cL_law 2028 = .ok (.aload_n 2, 1) := dk_44 (dk_at dksL_law_78 5 rfl rfl)
theorem dL_law_2029 : decode cL_law 2029 = .ok (.invokevirtual 253, 3) := dk_182 0 253 (dk_at dksL_law_78 6 rfl rfl)
theorem dL_law_2032 : decode cL_law 2032 = .ok (.istore 6, 2) := dk_54 6 (dk_at dksL_law_78 9 rfl rfl)
theorem dL_law_2034 : decode cL_law 2034 = .ok (.aload_n 2, 1) := dk_44 (dk_at dksL_law_78 11 rfl rfl)
theorem dL_law_2035 : decode cL_law 2035 = .ok (.invokevirtual 159, 3) := dk_182 0 159 (dk_at dksL_law_78 12 rfl rfl)
theorem dL_law_2038 : decode cL_law 2038 = .ok (.iload 5, 2) := dk_21 5 (dk_at dksL_law_78 15 rfl rfl)
theorem dL_law_2040 : decode cL_law 2040 = .ok (.if_icmp .eq 5, 3) := dk_159 0 5 (dk_at dksL_law_78 17 rfl rfl)
theorem dL_law_2043 : decode cL_law 2043 = .ok (.iconst 0, 1) := dk_3 (dk_at dksL_law_78 20 rfl rfl)
theorem dL_law_2044 : decode cL_law 2044 = .ok (.ireturn, 1) := dk_172 (dk_at dksL_law_78 21 rfl rfl)
theorem dL_law_2045 : decode cL_law 2045 = .ok (.iload 5, 2) := dk_21 5 (dk_at dksL_law_78 22 rfl rfl)
theorem dL_law_2047 : decode cL_law 2047 = .ok (.ifCond .ne 15, 3) := dk_154 0 15 (dk_at dksL_law_79 0 rfl rfl)
theorem dL_law_2050 : decode cL_law 2050 = .ok (.aload_n 3, 1) := dk_45 (dk_at dksL_law_79 3 rfl rfl)
theorem dL_law_2051 : decode cL_law 2051 = .ok (.iconst 0, 1) := dk_3 (dk_at dksL_law_79 4 rfl rfl)
theorem dL_law_2052 : decode cL_law 2052 = .ok (.laload, 1) := dk_47 (dk_at dksL_law_79 5 rfl rfl)
theorem dL_law_2053 : decode cL_law 2053 = .ok (.iload 6, 2) := dk_21 6 (dk_at dksL_law_79 6 rfl rfl)
theorem dL_law_2055 : decode cL_law 2055 = .ok (.i2l, 1) := dk_133 (dk_at dksL_law_79 8 rfl rfl)
theorem dL_law_2056 : decode cL_law 2056 = .ok (.lcmp, 1) := dk_148 (dk_at dksL_law_79 9 rfl rfl)
theorem dL_law_2057 : decode cL_law 2057 = .ok (.ifCond .eq 5, 3) := dk_153 0 5 (dk_at dksL_law_79 10 rfl rfl)
theorem dL_law_2060 : decode cL_law 2060 = .ok (.iconst 0, 1) := dk_3 (dk_at dksL_law_79 13 rfl rfl)
theorem dL_law_2061 : decode cL_law 2061 = .ok (.ireturn, 1) := dk_172 (dk_at dksL_law_79 14 rfl rfl)
theorem dL_law_2062 : decode cL_law 2062 = .ok (.goto 1122, 3) := dk_167 4 98 (dk_at dksL_law_79 15 rfl rfl)
theorem dL_law_2065 : decode cL_law 2065 = .ok (.aload_n 1, 1) := dk_43 (dk_at dksL_law_79 18 rfl rfl)
theorem dL_law_2066 : decode cL_law 2066 = .ok (.aload_n 0, 1) := dk_42 (dk_at dksL_law_79 19 rfl rfl)
theorem dL_law_2067 : decode cL_law 2067 = .ok (.iload 4, 2) := dk_21 4 (dk_at dksL_law_79 20 rfl rfl)
theorem dL_law_2069 : decode cL_law 2069 = .ok (.iconst 1, 1) := dk_4 (dk_at dksL_law_79 22 rfl rfl)
theorem dL_law_2070 : decode cL_law 2070 = .ok (.iadd, 1) := dk_96 (dk_at dksL_law_79 23 rfl rfl)
theorem dL_law_2071 : decode cL_law 2071 = .ok (.iaload, 1) := dk_46 (dk_at dksL_law_80 0 rfl rfl)
theorem dL_law_2072 : decode cL_law 2072 = .ok (.ifCond .eq 7, 3) := dk_153 0 7 (dk_at dksL_law_80 1 rfl rfl)
theorem dL_law_2075 : decode cL_law 2075 = .ok (.iconst 1, 1) := dk_4 (dk_at dksL_law_80 4 rfl rfl)
theorem dL_law_2076 : decode cL_law 2076 = .ok (.goto 4, 3) := dk_167 0 4 (dk_at dksL_law_80 5 rfl rfl)
theorem dL_law_2079 : decode cL_law 2079 = .ok (.iconst 0, 1) := dk_3 (dk_at dksL_law_80 8 rfl rfl)
theorem dL_law_2080 : decode cL_law 2080 = .ok (.aload_n 3, 1) := dk_45 (dk_at dksL_law_80 9 rfl rfl)
theorem dL_law_2081 : decode cL_law 2081 = .ok (.invokestatic 254, 3) := dk_184 0 254 (dk_at dksL_law_80 10 rfl rfl)
theorem dL_law_2084 : decode cL_law 2084 = .ok (.istore 5, 2) := dk_54 5 (dk_at dksL_law_80 13 rfl rfl)
theorem dL_law_2086 : decode cL_law 2086 = .ok (.aload_n 2, 1) := dk_44 (dk_at dksL_law_80 15 rfl rfl)
theorem dL_law_2087 : decode cL_law 2087 = .ok (.aload_n 0, 1) := dk_42 (dk_at dksL_law_80 16 rfl rfl)
theorem dL_law_2088 : decode cL_law 2088 = .ok (.iload 4, 2) := dk_21 4 (dk_at dksL_law_80 17 rfl rfl)
theorem dL_law_2090 : decode cL_law 2090 = .ok (.iconst 1, 1) := dk_4 (dk_at dksL_law_80 19 rfl rfl)
theorem dL_law_2091 : decode cL_law 2091 = .ok (.iadd, 1) := dk_96 (dk_at dksL_law_80 20 rfl rfl)
theorem dL_law_2092 : decode cL_law 2092 = .ok (.iaload, 1) := dk_46 (dk_at dksL_law_80 21 rfl rfl)
theorem dL_law_2093 : decode cL_law 2093 = .ok (.ifCond .eq 7, 3) := dk_153 0 7 (dk_at dksL_law_81 0 rfl rfl)
theorem dL_law_2096 : decode cL_law 2096 = .ok (.iconst 1, 1) := dk_4 (dk_at dksL_law_81 3 rfl rfl)
theorem dL_law_2097 : decode cL_law 2097 = .ok (.goto 4, 3) := dk_167 0 4 (dk_at dksL_law_81 4 rfl rfl)
theorem dL_law_2100 : decode cL_law 2100 = .ok (.iconst 0, 1) := dk_3 (dk_at dksL_law_81 7 rfl rfl)
theorem dL_law_2101 : decode cL_law 2101 = .ok (.invokevirtual 256, 3) := dk_182 1 0 (dk_at dksL_law_81 8 rfl rfl)
theorem dL_law_2104 : decode cL_law 2104 = .ok (.istore 6, 2) := dk_54 6 (dk_at dksL_law_81 11 rfl rfl)
theorem dL_law_2106 : decode cL_law 2106 = .ok (.aload_n 2, 1) := dk_44 (dk_at dksL_law_81 13 rfl rfl)
theorem dL_law_2107 : decode cL_law 2107 = .ok (.invokevirtual 159, 3) := dk_182 0 159 (dk_at dksL_law_81 14 rfl rfl)
theorem dL_law_2110 : decode cL_law 2110 = .ok (.iload 5, 2) := dk_21 5 (dk_at dksL_law_81 17 rfl rfl)
theorem dL_law_2112 : decode cL_law 2112 = .ok (.if_icmp .eq 5, 3) := dk_159 0 5 (dk_at dksL_law_81 19 rfl rfl)
theorem dL_law_2115 : decode cL_law 2115 = .ok (.iconst 0, 1) := dk_3 (dk_at dksL_law_81 22 rfl rfl)
theorem dL_law_2116 : decode cL_law 2116 = .ok (.ireturn, 1) := dk_172 (dk_at dksL_law_81 23 rfl rfl)
theorem dL_law_2117 : decode cL_law 2117 = .ok (.iload 5, 2) := dk_21 5 (dk_at dksL_law_82 0 rfl rfl)
theorem dL_law_2119 : decode cL_law 2119 = .ok (.ifCond .ne 15, 3) := dk_154 0 15 (dk_at dksL_law_82 2 rfl rfl)
theorem dL_law_2122 : decode cL_law 2122 = .ok (.aload_n 3, 1) := dk_45 (dk_at dksL_law_82 5 rfl rfl)
theorem dL_law_2123 : decode cL_law 2123 = .ok (.iconst 0, 1) := dk_3 (dk_at dksL_law_82 6 rfl rfl)
theorem dL_law_2124 : decode cL_law 2124 = .ok (.laload, 1) := dk_47 (dk_at dksL_law_82 7 rfl rfl)
theorem dL_law_2125 : decode cL_law 2125 = .ok (.iload 6, 2) := dk_21 6 (dk_at dksL_law_82 8 rfl rfl)
theorem dL_law_2127 : decode cL_law 2127 = .ok (.i2l, 1) := dk_133 (dk_at dksL_law_82 10 rfl rfl)
theorem dL_law_2128 : decode cL_law 2128 = .ok (.lcmp, 1) := dk_148 (dk_at dksL_law_82 11 rfl rfl)
theorem dL_law_2129 : decode cL_law 2129 = .ok (.ifCond .eq 5, 3) := dk_153 0 5 (dk_at dksL_law_82 12 rfl rfl)
theorem dL_law_2132 : decode cL_law 2132 = .ok (.iconst 0, 1) := dk_3 (dk_at dksL_law_82 15 rfl rfl)
theorem dL_law_2133 : decode cL_law 2133 = .ok (.ireturn, 1) := dk_172 (dk_at dksL_law_82 16 rfl rfl)
theorem dL_law_2134 : decode cL_law 2134 = .ok (.goto 1050, 3) := dk_167 4 26 (dk_at dksL_law_82 17 rfl rfl)
theorem dL_law_2137 : decode cL_law 2137 = .ok (.aload_n 1, 1) := dk_43 (dk_at dksL_law_82 20 rfl rfl)
theorem dL_law_2138 : decode cL_law 2138 = .ok (.invokevirtual 257, 3) := dk_182 1 1 (dk_at dksL_law_82 21 rfl rfl)
theorem dL_law_2141 : decode cL_law 2141 = .ok (.aload_n 2, 1) := dk_44 (dk_at dksL_law_83 0 rfl rfl)
theorem dL_law_2142 : decode cL_law 2142 = .ok (.invokevirtual 260, 3) := dk_182 1 4 (dk_at dksL_law_83 1 rfl rfl)
theorem dL_law_2145 : decode cL_law 2145 = .ok (.if_icmp .eq 1039, 3) := dk_159 4 15 (dk_at dksL_law_83 4 rfl rfl)
theorem dL_law_2148 : decode cL_law 2148 = .ok (.iconst 0, 1) := dk_3 (dk_at dksL_law_83 7 rfl rfl)
theorem dL_law_2149 : decode cL_law 2149 = .ok (.ireturn, 1) := dk_172 (dk_at dksL_law_83 8 rfl rfl)
theorem dL_law_2150 : decode cL_law 2150 = .ok (.aload_n 1, 1) := dk_43 (dk_at dksL_law_83 9 rfl rfl)
theorem dL_law_2151 : decode cL_law 2151 = .ok (.aload_n 0, 1) := dk_42 (dk_at dksL_law_83 10 rfl rfl)
theorem dL_law_2152 : decode cL_law 2152 = .ok (.iload 4, 2) := dk_21 4 (dk_at dksL_law_83 11 rfl rfl)
theorem dL_law_2154 : decode cL_law 2154 = .ok (.iconst 1, 1) := dk_4 (dk_at dksL_law_83 13 rfl rfl)
theorem dL_law_2155 : decode cL_law 2155 = .ok (.iadd, 1) := dk_96 (dk_at dksL_law_83 14 rfl rfl)
theorem dL_law_2156 : decode cL_law 2156 = .ok (.iaload, 1) := dk_46 (dk_at dksL_law_83 15 rfl rfl)
theorem dL_law_2157 : decode cL_law 2157 = .ok (.aload_n 0, 1) := dk_42 (dk_at dksL_law_83 16 rfl rfl)
theorem dL_law_2158 : decode cL_law 2158 = .ok (.iload 4, 2) := dk_21 4 (dk_at dksL_law_83 17 rfl rfl)
theorem dL_law_2160 : decode cL_law 2160 = .ok (.iconst 2, 1) := dk_5 (dk_at dksL_law_83 19 rfl rfl)
theorem dL_law_2161 : decode cL_law 2161 = .ok (.iadd, 1) := dk_96 (dk_at dksL_law_83 20 rfl rfl)
theorem dL_law_2162 : decode cL_law 2162 = .ok (.iaload, 1) := dk_46 (dk_at dksL_law_83 21 rfl rfl)
theorem dL_law_2163 : decode cL_law 2163 = .ok (.aload_n 3, 1) := dk_45 (dk_at dksL_law_83 22 rfl rfl)
theorem dL_law_2164 : decode cL_law 2164 = .ok (.invokestatic 261, 3) := dk_184 1 5 (dk_at dksL_law_84 0 rfl rfl)
theorem dL_law_2167 : decode cL_law 2167 = .ok (.istore 5, 2) := dk_54 5 (dk_at dksL_law_84 3 rfl rfl)
theorem dL_law_2169 : decode cL_law 2169 = .ok (.aload_n 2, 1) := dk_44 (dk_at dksL_law_84 5 rfl rfl)
theorem dL_law_2170 : decode cL_law 2170 = .ok (.aload_n 0, 1) := dk_42 (dk_at dksL_law_84 6 rfl rfl)
theorem dL_law_2171 : decode cL_law 2171 = .ok (.iload 4, 2) := dk_21 4 (dk_at dksL_law_84 7 rfl rfl)
theorem dL_law_2173 : decode cL_law 2173 = .ok (.iconst 1, 1) := dk_4 (dk_at dksL_law_84 9 rfl rfl)
theorem dL_law_2174 : decode cL_law 2174 = .ok (.iadd, 1) := dk_96 (dk_at dksL_law_84 10 rfl rfl)
theorem dL_law_2175 : decode cL_law 2175 = .ok (.iaload, 1) := dk_46 (dk_at dksL_law_84 11 rfl rfl)
theorem dL_law_2176 : decode cL_law 2176 = .ok (.aload_n 0, 1) := dk_42 (dk_at dksL_law_84 12 rfl rfl)
theorem dL_law_2177 : decode cL_law 2177 = .ok (.iload 4, 2) := dk_21 4 (dk_at dksL_law_84 13 rfl rfl)
theorem dL_law_2179 : decode cL_law 2179 = .ok (.iconst 2, 1) := dk_5 (dk_at dksL_law_84 15 rfl rfl)
theorem dL_law_2180 : decode cL_law 2180 = .ok (.iadd, 1) := dk_96 (dk_at dksL_law_84 16 rfl rfl)
theorem dL_law_2181 : decode cL_law 2181 = .ok (.iaload, 1) := dk_46 (dk_at dksL_law_84 17 rfl rfl)
theorem dL_law_2182 : decode cL_law 2182 = .ok (.invokevirtual 263, 3) := dk_182 1 7 (dk_at dksL_law_84 18 rfl rfl)
theorem dL_law_2185 : decode cL_law 2185 = .ok (.istore 6, 2) := dk_54 6 (dk_at dksL_law_84 21 rfl rfl)
theorem dL_law_2187 : decode cL_law 2187 = .ok (.aload_n 2, 1) := dk_44 (dk_at dksL_law_84 23 rfl rfl)
theorem dL_law_2188 : decode cL_law 2188 = .ok (.invokevirtual 159, 3) := dk_182 0 159 (dk_at dksL_law_85 0 rfl rfl)
theorem dL_law_2191 : decode cL_law 2191 = .ok (.iload 5, 2) := dk_21 5 (dk_at dksL_law_85 3 rfl rfl)
theorem dL_law_2193 : decode cL_law 2193 = .ok (.if_icmp .eq 5, 3) := dk_159 0 5 (dk_at dksL_law_85 5 rfl rfl)
theorem dL_law_2196 : decode cL_law 2196 = .ok (.iconst 0, 1) := dk_3 (dk_at dksL_law_85 8 rfl rfl)
theorem dL_law_2197 : decode cL_law 2197 = .ok (.ireturn, 1) := dk_172 (dk_at dksL_law_85 9 rfl rfl)
theorem dL_law_2198 : decode cL_law 2198 = .ok (.iload 5, 2) := dk_21 5 (dk_at dksL_law_85 10 rfl rfl)
theorem dL_law_2200 : decode cL_law 2200 = .ok (.ifCond .ne 15, 3) := dk_154 0 15 (dk_at dksL_law_85 12 rfl rfl)
theorem dL_law_2203 : decode cL_law 2203 = .ok (.aload_n 3, 1) := dk_45 (dk_at dksL_law_85 15 rfl rfl)
theorem dL_law_2204 : decode cL_law 2204 = .ok (.iconst 0, 1) := dk_3 (dk_at dksL_law_85 16 rfl rfl)
theorem dL_law_2205 : decode cL_law 2205 = .ok (.laload, 1) := dk_47 (dk_at dksL_law_85 17 rfl rfl)
theorem dL_law_2206 : decode cL_law 2206 = .ok (.iload 6, 2) := dk_21 6 (dk_at dksL_law_85 18 rfl rfl)
theorem dL_law_2208 : decode cL_law 2208 = .ok (.i2l, 1) := dk_133 (dk_at dksL_law_85 20 rfl rfl)
theorem dL_law_2209 : decode cL_law 2209 = .ok (.lcmp, 1) := dk_148 (dk_at dksL_law_85 21 rfl rfl)
theorem dL_law_2210 : decode cL_law 2210 = .ok (.ifCond .eq 5, 3) := dk_153 0 5 (dk_at dksL_law_86 0 rfl rfl)
theorem dL_law_2213 : decode cL_law 2213 = .ok (.iconst 0, 1) := dk_3 (dk_at dksL_law_86 3 rfl rfl)
theorem dL_law_2214 : decode cL_law 2214 = .ok (.ireturn, 1) := dk_172 (dk_at dksL_law_86 4 rfl rfl)
theorem dL_law_2215 : decode cL_law 2215 = .ok (.goto 969, 3) := dk_167 3 201 (dk_at dksL_law_86 5 rfl rfl)
theorem dL_law_2218 : decode cL_law 2218 = .ok (.aload_n 1, 1) := dk_43 (dk_at dksL_law_86 8 rfl rfl)
theorem dL_law_2219 : decode cL_law 2219 = .ok (.aload_n 0, 1) := dk_42 (dk_at dksL_law_86 9 rfl rfl)
theorem dL_law_2220 : decode cL_law 2220 = .ok (.iload 4, 2) := dk_21 4 (dk_at dksL_law_86 10 rfl rfl)
theorem dL_law_2222 : decode cL_law 2222 = .ok (.iconst 1, 1) := dk_4 (dk_at dksL_law_86 12 rfl rfl)
theorem dL_law_2223 : decode cL_law 2223 = .ok (.iadd, 1) := dk_96 (dk_at dksL_law_86 13 rfl rfl)
theorem dL_law_2224 : decode cL_law 2224 = .ok (.iaload, 1) := dk_46 (dk_at dksL_law_86 14 rfl rfl)
theorem dL_law_2225 : decode cL_law 2225 = .ok (.aload_n 3, 1) := dk_45 (dk_at dksL_law_86 15 rfl rfl)
theorem dL_law_2226 : decode cL_law 2226 = .ok (.invokestatic 264, 3) := dk_184 1 8 (dk_at dksL_law_86 16 rfl rfl)
theorem dL_law_2229 : decode cL_law 2229 = .ok (.istore 5, 2) := dk_54 5 (dk_at dksL_law_86 19 rfl rfl)
theorem dL_law_2231 : decode cL_law 2231 = .ok (.aload_n 2, 1) := dk_44 (dk_at dksL_law_86 21 rfl rfl)
theorem dL_law_2232 : decode cL_law 2232 = .ok (.aload_n 0, 1) := dk_42 (dk_at dksL_law_86 22 rfl rfl)
theorem dL_law_2233 : decode cL_law 2233 = .ok (.iload 4, 2) := dk_21 4 (dk_at dksL_law_87 0 rfl rfl)
theorem dL_law_2235 : decode cL_law 2235 = .ok (.iconst 1, 1) := dk_4 (dk_at dksL_law_87 2 rfl rfl)
theorem dL_law_2236 : decode cL_law 2236 = .ok (.iadd, 1) := dk_96 (dk_at dksL_law_87 3 rfl rfl)
theorem dL_law_2237 : decode cL_law 2237 = .ok (.iaload, 1) := dk_46 (dk_at dksL_law_87 4 rfl rfl)
theorem dL_law_2238 : decode cL_law 2238 = .ok (.invokevirtual 266, 3) := dk_182 1 10 (dk_at dksL_law_87 5 rfl rfl)
theorem dL_law_2241 : decode cL_law 2241 = .ok (.istore 6, 2) := dk_54 6 (dk_at dksL_law_87 8 rfl rfl)
theorem dL_law_2243 : decode cL_law 2243 = .ok (.aload_n 2, 1) := dk_44 (dk_at dksL_law_87 10 rfl rfl)
theorem dL_law_2244 : decode cL_law 2244 = .ok (.invokevirtual 159, 3) := dk_182 0 159 (dk_at dksL_law_87 11 rfl rfl)
theorem dL_law_2247 : decode cL_law 2247 = .ok (.iload 5, 2) := dk_21 5 (dk_at dksL_law_87 14 rfl rfl)
theorem dL_law_2249 : decode cL_law 2249 = .ok (.if_icmp .eq 5, 3) := dk_159 0 5 (dk_at dksL_law_87 16 rfl rfl)
theorem dL_law_2252 : decode cL_law 2252 = .ok (.iconst 0, 1) := dk_3 (dk_at dksL_law_87 19 rfl rfl)
theorem dL_law_2253 : decode cL_law 2253 = .ok (.ireturn, 1) := dk_172 (dk_at dksL_law_87 20 rfl rfl)
theorem dL_law_2254 : decode cL_law 2254 = .ok (.iload 5, 2) := dk_21 5 (dk_at dksL_law_87 21 rfl rfl)
theorem dL_law_2256 : decode cL_law 2256 = .ok (.ifCond .ne 15, 3) := dk_154 0 15 (dk_at dksL_law_88 0 rfl rfl)
theorem dL_law_2259 : decode cL_law 2259 = .ok (.aload_n 3, 1) := dk_45 (dk_at dksL_law_88 3 rfl rfl)
theorem dL_law_2260 : decode cL_law 2260 = .ok (.iconst 0, 1) := dk_3 (dk_at dksL_law_88 4 rfl rfl)
theorem dL_law_2261 : decode cL_law 2261 = .ok (.laload, 1) := dk_47 (dk_at dksL_law_88 5 rfl rfl)
theorem dL_law_2262 : decode cL_law 2262 = .ok (.iload 6, 2) := dk_21 6 (dk_at dksL_law_88 6 rfl rfl)
theorem dL_law_2264 : decode cL_law 2264 = .ok (.i2l, 1) := dk_133 (dk_at dksL_law_88 8 rfl rfl)
theorem dL_law_2265 : decode cL_law 2265 = .ok (.lcmp, 1) := dk_148 (dk_at dksL_law_88 9 rfl rfl)
theorem dL_law_2266 : decode cL_law 2266 = .ok (.ifCond .eq 5, 3) := dk_153 0 5 (dk_at dksL_law_88 10 rfl rfl)
theorem dL_law_2269 : decode cL_law 2269 = .ok (.iconst 0, 1) := dk_3 (dk_at dksL_law_88 13 rfl rfl)
theorem dL_law_2270 : decode cL_law 2270 = .ok (.ireturn, 1) := dk_172 (dk_at dksL_law_88 14 rfl rfl)
theorem dL_law_2271 : decode cL_law 2271 = .ok (.goto 913, 3) := dk_167 3 145 (dk_at dksL_law_88 15 rfl rfl)
theorem dL_law_2274 : decode cL_law 2274 = .ok (.aload_n 1, 1) := dk_43 (dk_at dksL_law_88 18 rfl rfl)
theorem dL_law_2275 : decode cL_law 2275 = .ok (.aload_n 0, 1) := dk_42 (dk_at dksL_law_88 19 rfl rfl)
theorem dL_law_2276 : decode cL_law 2276 = .ok (.iload 4, 2) := dk_21 4 (dk_at dksL_law_88 20 rfl rfl)
theorem dL_law_2278 : decode cL_law 2278 = .ok (.iconst 1, 1) := dk_4 (dk_at dksL_law_88 22 rfl rfl)
theorem dL_law_2279 : decode cL_law 2279 = .ok (.iadd, 1) := dk_96 (dk_at dksL_law_88 23 rfl rfl)
theorem dL_law_2280 : decode cL_law 2280 = .ok (.iaload, 1) := dk_46 (dk_at dksL_law_89 0 rfl rfl)
theorem dL_law_2281 : decode cL_law 2281 = .ok (.aload_n 0, 1) := dk_42 (dk_at dksL_law_89 1 rfl rfl)
theorem dL_law_2282 : decode cL_law 2282 = .ok (.iload 4, 2) := dk_21 4 (dk_at dksL_law_89 2 rfl rfl)
theorem dL_law_2284 : decode cL_law 2284 = .ok (.iconst 2, 1) := dk_5 (dk_at dksL_law_89 4 rfl rfl)
theorem dL_law_2285 : decode cL_law 2285 = .ok (.iadd, 1) := dk_96 (dk_at dksL_law_89 5 rfl rfl)
theorem dL_law_2286 : decode cL_law 2286 = .ok (.iaload, 1) := dk_46 (dk_at dksL_law_89 6 rfl rfl)
theorem dL_law_2287 : decode cL_law 2287 = .ok (.aload_n 3, 1) := dk_45 (dk_at dksL_law_89 7 rfl rfl)
theorem dL_law_2288 : decode cL_law 2288 = .ok (.invokestatic 267, 3) := dk_184 1 11 (dk_at dksL_law_89 8 rfl rfl)
theorem dL_law_2291 : decode cL_law 2291 = .ok (.istore 5, 2) := dk_54 5 (dk_at dksL_law_89 11 rfl rfl)
theorem dL_law_2293 : decode cL_law 2293 = .ok (.aload_n 2, 1) := dk_44 (dk_at dksL_law_89 13 rfl rfl)
theorem dL_law_2294 : decode cL_law 2294 = .ok (.aload_n 0, 1) := dk_42 (dk_at dksL_law_89 14 rfl rfl)
theorem dL_law_2295 : decode cL_law 2295 = .ok (.iload 4, 2) := dk_21 4 (dk_at dksL_law_89 15 rfl rfl)
theorem dL_law_2297 : decode cL_law 2297 = .ok (.iconst 1, 1) := dk_4 (dk_at dksL_law_89 17 rfl rfl)
theorem dL_law_2298 : decode cL_law 2298 = .ok (.iadd, 1) := dk_96 (dk_at dksL_law_89 18 rfl rfl)
theorem dL_law_2299 : decode cL_law 2299 = .ok (.iaload, 1) := dk_46 (dk_at dksL_law_89 19 rfl rfl)
theorem dL_law_2300 : decode cL_law 2300 = .ok (.aload_n 0, 1) := dk_42 (dk_at dksL_law_89 20 rfl rfl)
theorem dL_law_2301 : decode cL_law 2301 = .ok (.iload 4, 2) := dk_21 4 (dk_at dksL_law_89 21 rfl rfl)
theorem dL_law_2303 : decode cL_law 2303 = .ok (.iconst 2, 1) := dk_5 (dk_at dksL_law_89 23 rfl rfl)
theorem dL_law_2304 : decode cL_law 2304 = .ok (.iadd, 1) := dk_96 (dk_at dksL_law_90 0 rfl rfl)
theorem dL_law_2305 : decode cL_law 2305 = .ok (.iaload, 1) := dk_46 (dk_at dksL_law_90 1 rfl rfl)
theorem dL_law_2306 : decode cL_law 2306 = .ok (.invokevirtual 269, 3) := dk_182 1 13 (dk_at dksL_law_90 2 rfl rfl)
theorem dL_law_2309 : decode cL_law 2309 = .ok (.istore 6, 2) := dk_54 6 (dk_at dksL_law_90 5 rfl rfl)
theorem dL_law_2311 : decode cL_law 2311 = .ok (.aload_n 2, 1) := dk_44 (dk_at dksL_law_90 7 rfl rfl)
theorem dL_law_2312 : decode cL_law 2312 = .ok (.invokevirtual 159, 3) := dk_182 0 159 (dk_at dksL_law_90 8 rfl rfl)
theorem dL_law_2315 : decode cL_law 2315 = .ok (.iload 5, 2) := dk_21 5 (dk_at dksL_law_90 11 rfl rfl)
theorem dL_law_2317 : decode cL_law 2317 = .ok (.if_icmp .eq 5, 3) := dk_159 0 5 (dk_at dksL_law_90 13 rfl rfl)
theorem dL_law_2320 : decode cL_law 2320 = .ok (.iconst 0, 1) := dk_3 (dk_at dksL_law_90 16 rfl rfl)
theorem dL_law_2321 : decode cL_law 2321 = .ok (.ireturn, 1) := dk_172 (dk_at dksL_law_90 17 rfl rfl)
theorem dL_law_2322 : decode cL_law 2322 = .ok (.iload 5, 2) := dk_21 5 (dk_at dksL_law_90 18 rfl rfl)
theorem dL_law_2324 : decode cL_law 2324 = .ok (.ifCond .ne 15, 3) := dk_154 0 15 (dk_at dksL_law_90 20 rfl rfl)
theorem dL_law_2327 : decode cL_law 2327 = .ok (.aload_n 3, 1) := dk_45 (dk_at dksL_law_90 23 rfl rfl)
theorem dL_law_2328 : decode cL_law 2328 = .ok (.iconst 0, 1) := dk_3 (dk_at dksL_law_91 0 rfl rfl)
theorem dL_law_2329 : decode cL_law 2329 = .ok (.laload, 1) := dk_47 (dk_at dksL_law_91 1 rfl rfl)
theorem dL_law_2330 : decode cL_law 2330 = .ok (.iload 6, 2) := dk_21 6 (dk_at dksL_law_91 2 rfl rfl)
theorem dL_law_2332 : decode cL_law 2332 = .ok (.i2l, 1) := dk_133 (dk_at dksL_law_91 4 rfl rfl)
theorem dL_law_2333 : decode cL_law 2333 = .ok (.lcmp, 1) := dk_148 (dk_at dksL_law_91 5 rfl rfl)
theorem dL_law_2334 : decode cL_law 2334 = .ok (.ifCond .eq 5, 3) := dk_153 0 5 (dk_at dksL_law_91 6 rfl rfl)
theorem dL_law_2337 : decode cL_law 2337 = .ok (.iconst 0, 1) := dk_3 (dk_at dksL_law_91 9 rfl rfl)
theorem dL_law_2338 : decode cL_law 2338 = .ok (.ireturn, 1) := dk_172 (dk_at dksL_law_91 10 rfl rfl)
theorem dL_law_2339 : decode cL_law 2339 = .ok (.goto 845, 3) := dk_167 3 77 (dk_at dksL_law_91 11 rfl rfl)
theorem dL_law_2342 : decode cL_law 2342 = .ok (.aload_n 1, 1) := dk_43 (dk_at dksL_law_91 14 rfl rfl)
theorem dL_law_2343 : decode cL_law 2343 = .ok (.aload_n 0, 1) := dk_42 (dk_at dksL_law_91 15 rfl rfl)
theorem dL_law_2344 : decode cL_law 2344 = .ok (.iload 4, 2) := dk_21 4 (dk_at dksL_law_91 16 rfl rfl)
theorem dL_law_2346 : decode cL_law 2346 = .ok (.iconst 1, 1) := dk_4 (dk_at dksL_law_91 18 rfl rfl)
theorem dL_law_2347 : decode cL_law 2347 = .ok (.iadd, 1) := dk_96 (dk_at dksL_law_91 19 rfl rfl)
theorem dL_law_2348 : decode cL_law 2348 = .ok (.iaload, 1) := dk_46 (dk_at dksL_law_91 20 rfl rfl)
theorem dL_law_2349 : decode cL_law 2349 = .ok (.aload_n 0, 1) := dk_42 (dk_at dksL_law_91 21 rfl rfl)
theorem dL_law_2350 : decode cL_law 2350 = .ok (.iload 4, 2) := dk_21 4 (dk_at dksL_law_91 22 rfl rfl)
theorem dL_law_2352 : decode cL_law 2352 = .ok (.iconst 2, 1) := dk_5 (dk_at dksL_law_92 0 rfl rfl)
theorem dL_law_2353 : decode cL_law 2353 = .ok (.iadd, 1) := dk_96 (dk_at dksL_law_92 1 rfl rfl)
theorem dL_law_2354 : decode cL_law 2354 = .ok (.iaload, 1) := dk_46 (dk_at dksL_law_92 2 rfl rfl)
theorem dL_law_2355 : decode cL_law 2355 = .ok (.aload_n 3, 1) := dk_45 (dk_at dksL_law_92 3 rfl rfl)
theorem dL_law_2356 : decode cL_law 2356 = .ok (.invokestatic 270, 3) := dk_184 1 14 (dk_at dksL_law_92 4 rfl rfl)
theorem dL_law_2359 : decode cL_law 2359 = .ok (.istore 5, 2) := dk_54 5 (dk_at dksL_law_92 7 rfl rfl)
theorem dL_law_2361 : decode cL_law 2361 = .ok (.aload_n 2, 1) := dk_44 (dk_at dksL_law_92 9 rfl rfl)
theorem dL_law_2362 : decode cL_law 2362 = .ok (.aload_n 0, 1) := dk_42 (dk_at dksL_law_92 10 rfl rfl)
theorem dL_law_2363 : decode cL_law 2363 = .ok (.iload 4, 2) := dk_21 4 (dk_at dksL_law_92 11 rfl rfl)
theorem dL_law_2365 : decode cL_law 2365 = .ok (.iconst 1, 1) := dk_4 (dk_at dksL_law_92 13 rfl rfl)
theorem dL_law_2366 : decode cL_law 2366 = .ok (.iadd, 1) := dk_96 (dk_at dksL_law_92 14 rfl rfl)
theorem dL_law_2367 : decode cL_law 2367 = .ok (.iaload, 1) := dk_46 (dk_at dksL_law_92 15 rfl rfl)
theorem dL_law_2368 : decode cL_law 2368 = .ok (.aload_n 0, 1) := dk_42 (dk_at dksL_law_92 16 rfl rfl)
theorem dL_law_2369 : decode cL_law 2369 = .ok (.iload 4, 2) := dk_21 4 (dk_at dksL_law_92 17 rfl rfl)
theorem dL_law_2371 : decode cL_law 2371 = .ok (.iconst 2, 1) := dk_5 (dk_at dksL_law_92 19 rfl rfl)
theorem dL_law_2372 : decode cL_law 2372 = .ok (.iadd, 1) := dk_96 (dk_at dksL_law_92 20 rfl rfl)
theorem dL_law_2373 : decode cL_law 2373 = .ok (.iaload, 1) := dk_46 (dk_at dksL_law_92 21 rfl rfl)
theorem dL_law_2374 : decode cL_law 2374 = .ok (.invokevirtual 272, 3) := dk_182 1 16 (dk_at dksL_law_93 0 rfl rfl)
theorem dL_law_2377 : decode cL_law 2377 = .ok (.istore 6, 2) := dk_54 6 (dk_at dksL_law_93 3 rfl rfl)
theorem dL_law_2379 : decode cL_law 2379 = .ok (.aload_n 2, 1) := dk_44 (dk_at dksL_law_93 5 rfl rfl)
theorem dL_law_2380 : decode cL_law 2380 = .ok (.invokevirtual 159, 3) := dk_182 0 159 (dk_at dksL_law_93 6 rfl rfl)
theorem dL_law_2383 : decode cL_law 2383 = .ok (.iload 5, 2) := dk_21 5 (dk_at dksL_law_93 9 rfl rfl)
theorem dL_law_2385 : decode cL_law 2385 = .ok (.if_icmp .eq 5, 3) := dk_159 0 5 (dk_at dksL_law_93 11 rfl rfl)
theorem dL_law_2388 : decode cL_law 2388 = .ok (.iconst 0, 1) := dk_3 (dk_at dksL_law_93 14 rfl rfl)
theorem dL_law_2389 : decode cL_law 2389 = .ok (.ireturn, 1) := dk_172 (dk_at dksL_law_93 15 rfl rfl)
theorem dL_law_2390 : decode cL_law 2390 = .ok (.iload 5, 2) := dk_21 5 (dk_at dksL_law_93 16 rfl rfl)
theorem dL_law_2392 : decode cL_law 2392 = .ok (.ifCond .ne 15, 3) := dk_154 0 15 (dk_at dksL_law_93 18 rfl rfl)
theorem dL_law_2395 : decode cL_law 2395 = .ok (.aload_n 3, 1) := dk_45 (dk_at dksL_law_93 21 rfl rfl)
theorem dL_law_2396 : decode cL_law 2396 = .ok (.iconst 0, 1) := dk_3 (dk_at dksL_law_93 22 rfl rfl)
theorem dL_law_2397 : decode cL_law 2397 = .ok (.laload, 1) := dk_47 (dk_at dksL_law_93 23 rfl rfl)
theorem dL_law_2398 : decode cL_law 2398 = .ok (.iload 6, 2) := dk_21 6 (dk_at dksL_law_94 0 rfl rfl)
theorem dL_law_2400 : decode cL_law 2400 = .ok (.i2l, 1) := dk_133 (dk_at dksL_law_94 2 rfl rfl)
theorem dL_law_2401 : decode cL_law 2401 = .ok (.lcmp, 1) := dk_148 (dk_at dksL_law_94 3 rfl rfl)
theorem dL_law_2402 : decode cL_law 2402 = .ok (.ifCond .eq 5, 3) := dk_153 0 5 (dk_at dksL_law_94 4 rfl rfl)
theorem dL_law_2405 : decode cL_law 2405 = .ok (.iconst 0, 1) := dk_3 (dk_at dksL_law_94 7 rfl rfl)
theorem dL_law_2406 : decode cL_law 2406 = .ok (.ireturn, 1) := dk_172 (dk_at dksL_law_94 8 rfl rfl)
theorem dL_law_2407 : decode cL_law 2407 = .ok (.goto 777, 3) := dk_167 3 9 (dk_at dksL_law_94 9 rfl rfl)
theorem dL_law_2410 : decode cL_law 2410 = .ok (.aload_n 1, 1) := dk_43 (dk_at dksL_law_94 12 rfl rfl)
theorem dL_law_2411 : decode cL_law 2411 = .ok (.aload_n 0, 1) := dk_42 (dk_at dksL_law_94 13 rfl rfl)
theorem dL_law_2412 : decode cL_law 2412 = .ok (.iload 4, 2) := dk_21 4 (dk_at dksL_law_94 14 rfl rfl)
theorem dL_law_2414 : decode cL_law 2414 = .ok (.iconst 1, 1) := dk_4 (dk_at dksL_law_94 16 rfl rfl)
theorem dL_law_2415 : decode cL_law 2415 = .ok (.iadd, 1) := dk_96 (dk_at dksL_law_94 17 rfl rfl)
theorem dL_law_2416 : decode cL_law 2416 = .ok (.iaload, 1) := dk_46 (dk_at dksL_law_94 18 rfl rfl)
theorem dL_law_2417 : decode cL_law 2417 = .ok (.aload_n 0, 1) := dk_42 (dk_at dksL_law_94 19 rfl rfl)
theorem dL_law_2418 : decode cL_law 2418 = .ok (.iload 4, 2) := dk_21 4 (dk_at dksL_law_94 20 rfl rfl)
theorem dL_law_2420 : decode cL_law 2420 = .ok (.iconst 2, 1) := dk_5 (dk_at dksL_law_94 22 rfl rfl)
theorem dL_law_2421 : decode cL_law 2421 = .ok (.iadd, 1) := dk_96 (dk_at dksL_law_94 23 rfl rfl)
theorem dL_law_2422 : decode cL_law 2422 = .ok (.iaload, 1) := dk_46 (dk_at dksL_law_95 0 rfl rfl)
theorem dL_law_2423 : decode cL_law 2423 = .ok (.aload_n 3, 1) := dk_45 (dk_at dksL_law_95 1 rfl rfl)
theorem dL_law_2424 : decode cL_law 2424 = .ok (.invokestatic 273, 3) := dk_184 1 17 (dk_at dksL_law_95 2 rfl rfl)
theorem dL_law_2427 : decode cL_law 2427 = .ok (.istore 5, 2) := dk_54 5 (dk_at dksL_law_95 5 rfl rfl)
theorem dL_law_2429 : decode cL_law 2429 = .ok (.aload_n 2, 1) := dk_44 (dk_at dksL_law_95 7 rfl rfl)
theorem dL_law_2430 : decode cL_law 2430 = .ok (.aload_n 0, 1) := dk_42 (dk_at dksL_law_95 8 rfl rfl)
theorem dL_law_2431 : decode cL_law 2431 = .ok (.iload 4, 2) := dk_21 4 (dk_at dksL_law_95 9 rfl rfl)
theorem dL_law_2433 : decode cL_law 2433 = .ok (.iconst 1, 1) := dk_4 (dk_at dksL_law_95 11 rfl rfl)
theorem dL_law_2434 : decode cL_law 2434 = .ok (.iadd, 1) := dk_96 (dk_at dksL_law_95 12 rfl rfl)
theorem dL_law_2435 : decode cL_law 2435 = .ok (.iaload, 1) := dk_46 (dk_at dksL_law_95 13 rfl rfl)
theorem dL_law_2436 : decode cL_law 2436 = .ok (.aload_n 0, 1) := dk_42 (dk_at dksL_law_95 14 rfl rfl)
theorem dL_law_2437 : decode cL_law 2437 = .ok (.iload 4, 2) := dk_21 4 (dk_at dksL_law_95 15 rfl rfl)
theorem dL_law_2439 : decode cL_law 2439 = .ok (.iconst 2, 1) := dk_5 (dk_at dksL_law_95 17 rfl rfl)
theorem dL_law_2440 : decode cL_law 2440 = .ok (.iadd, 1) := dk_96 (dk_at dksL_law_95 18 rfl rfl)
theorem dL_law_2441 : decode cL_law 2441 = .ok (.iaload, 1) := dk_46 (dk_at dksL_law_95 19 rfl rfl)
theorem dL_law_2442 : decode cL_law 2442 = .ok (.invokevirtual 275, 3) := dk_182 1 19 (dk_at dksL_law_95 20 rfl rfl)
theorem dL_law_2445 : decode cL_law 2445 = .ok (.istore 6, 2) := dk_54 6 (dk_at dksL_law_96 0 rfl rfl)
theorem dL_law_2447 : decode cL_law 2447 = .ok (.aload_n 2, 1) := dk_44 (dk_at dksL_law_96 2 rfl rfl)
theorem dL_law_2448 : decode cL_law 2448 = .ok (.invokevirtual 159, 3) := dk_182 0 159 (dk_at dksL_law_96 3 rfl rfl)
theorem dL_law_2451 : decode cL_law 2451 = .ok (.iload 5, 2) := dk_21 5 (dk_at dksL_law_96 6 rfl rfl)
theorem dL_law_2453 : decode cL_law 2453 = .ok (.if_icmp .eq 5, 3) := dk_159 0 5 (dk_at dksL_law_96 8 rfl rfl)
theorem dL_law_2456 : decode cL_law 2456 = .ok (.iconst 0, 1) := dk_3 (dk_at dksL_law_96 11 rfl rfl)
theorem dL_law_2457 : decode cL_law 2457 = .ok (.ireturn, 1) := dk_172 (dk_at dksL_law_96 12 rfl rfl)
theorem dL_law_2458 : decode cL_law 2458 = .ok (.iload 5, 2) := dk_21 5 (dk_at dksL_law_96 13 rfl rfl)
theorem dL_law_2460 : decode cL_law 2460 = .ok (.ifCond .ne 15, 3) := dk_154 0 15 (dk_at dksL_law_96 15 rfl rfl)
theorem dL_law_2463 : decode cL_law 2463 = .ok (.aload_n 3, 1) := dk_45 (dk_at dksL_law_96 18 rfl rfl)
theorem dL_law_2464 : decode cL_law 2464 = .ok (.iconst 0, 1) := dk_3 (dk_at dksL_law_96 19 rfl rfl)
theorem dL_law_2465 : decode cL_law 2465 = .ok (.laload, 1) := dk_47 (dk_at dksL_law_96 20 rfl rfl)
theorem dL_law_2466 : decode cL_law 2466 = .ok (.iload 6, 2) := dk_21 6 (dk_at dksL_law_96 21 rfl rfl)
theorem dL_law_2468 : decode cL_law 2468 = .ok (.i2l, 1) := dk_133 (dk_at dksL_law_96 23 rfl rfl)
theorem dL_law_2469 : decode cL_law 2469 = .ok (.lcmp, 1) := dk_148 (dk_at dksL_law_97 0 rfl rfl)
theorem dL_law_2470 : decode cL_law 2470 = .ok (.ifCond .eq 5, 3) := dk_153 0 5 (dk_at dksL_law_97 1 rfl rfl)
theorem dL_law_2473 : decode cL_law 2473 = .ok (.iconst 0, 1) := dk_3 (dk_at dksL_law_97 4 rfl rfl)
theorem dL_law_2474 : decode cL_law 2474 = .ok (.ireturn, 1) := dk_172 (dk_at dksL_law_97 5 rfl rfl)
theorem dL_law_2475 : decode cL_law 2475 = .ok (.goto 709, 3) := dk_167 2 197 (dk_at dksL_law_97 6 rfl rfl)
theorem dL_law_2478 : decode cL_law 2478 = .ok (.aload_n 1, 1) := dk_43 (dk_at dksL_law_97 9 rfl rfl)
theorem dL_law_2479 : decode cL_law 2479 = .ok (.aload_n 0, 1) := dk_42 (dk_at dksL_law_97 10 rfl rfl)
theorem dL_law_2480 : decode cL_law 2480 = .ok (.iload 4, 2) := dk_21 4 (dk_at dksL_law_97 11 rfl rfl)
theorem dL_law_2482 : decode cL_law 2482 = .ok (.iconst 1, 1) := dk_4 (dk_at dksL_law_97 13 rfl rfl)
theorem dL_law_2483 : decode cL_law 2483 = .ok (.iadd, 1) := dk_96 (dk_at dksL_law_97 14 rfl rfl)
theorem dL_law_2484 : decode cL_law 2484 = .ok (.iaload, 1) := dk_46 (dk_at dksL_law_97 15 rfl rfl)
theorem dL_law_2485 : decode cL_law 2485 = .ok (.aload_n 0, 1) := dk_42 (dk_at dksL_law_97 16 rfl rfl)
theorem dL_law_2486 : decode cL_law 2486 = .ok (.iload 4, 2) := dk_21 4 (dk_at dksL_law_97 17 rfl rfl)
theorem dL_law_2488 : decode cL_law 2488 = .ok (.iconst 2, 1) := dk_5 (dk_at dksL_law_97 19 rfl rfl)
theorem dL_law_2489 : decode cL_law 2489 = .ok (.iadd, 1) := dk_96 (dk_at dksL_law_97 20 rfl rfl)
theorem dL_law_2490 : decode cL_law 2490 = .ok (.iaload, 1) := dk_46 (dk_at dksL_law_97 21 rfl rfl)
theorem dL_law_2491 : decode cL_law 2491 = .ok (.aload_n 3, 1) := dk_45 (dk_at dksL_law_97 22 rfl rfl)
theorem dL_law_2492 : decode cL_law 2492 = .ok (.invokestatic 276, 3) := dk_184 1 20 (dk_at dksL_law_98 0 rfl rfl)
theorem dL_law_2495 : decode cL_law 2495 = .ok (.istore 5, 2) := dk_54 5 (dk_at dksL_law_98 3 rfl rfl)
theorem dL_law_2497 : decode cL_law 2497 = .ok (.aload_n 2, 1) := dk_44 (dk_at dksL_law_98 5 rfl rfl)
theorem dL_law_2498 : decode cL_law 2498 = .ok (.aload_n 0, 1) := dk_42 (dk_at dksL_law_98 6 rfl rfl)
theorem dL_law_2499 : decode cL_law 2499 = .ok (.iload 4, 2) := dk_21 4 (dk_at dksL_law_98 7 rfl rfl)
theorem dL_law_2501 : decode cL_law 2501 = .ok (.iconst 1, 1) := dk_4 (dk_at dksL_law_98 9 rfl rfl)
theorem dL_law_2502 : decode cL_law 2502 = .ok (.iadd, 1) := dk_96 (dk_at dksL_law_98 10 rfl rfl)
theorem dL_law_2503 : decode cL_law 2503 = .ok (.iaload, 1) := dk_46 (dk_at dksL_law_98 11 rfl rfl)
theorem dL_law_2504 : decode cL_law 2504 = .ok (.aload_n 0, 1) := dk_42 (dk_at dksL_law_98 12 rfl rfl)
theorem dL_law_2505 : decode cL_law 2505 = .ok (.iload 4, 2) := dk_21 4 (dk_at dksL_law_98 13 rfl rfl)
theorem dL_law_2507 : decode cL_law 2507 = .ok (.iconst 2, 1) := dk_5 (dk_at dksL_law_98 15 rfl rfl)
theorem dL_law_2508 : decode cL_law 2508 = .ok (.iadd, 1) := dk_96 (dk_at dksL_law_98 16 rfl rfl)
theorem dL_law_2509 : decode cL_law 2509 = .ok (.iaload, 1) := dk_46 (dk_at dksL_law_98 17 rfl rfl)
theorem dL_law_2510 : decode cL_law 2510 = .ok (.invokevirtual 278, 3) := dk_182 1 22 (dk_at dksL_law_98 18 rfl rfl)
theorem dL_law_2513 : decode cL_law 2513 = .ok (.istore 6, 2) := dk_54 6 (dk_at dksL_law_98 21 rfl rfl)
theorem dL_law_2515 : decode cL_law 2515 = .ok (.aload_n 2, 1) := dk_44 (dk_at dksL_law_98 23 rfl rfl)
theorem dL_law_2516 : decode cL_law 2516 = .ok (.invokevirtual 159, 3) := dk_182 0 159 (dk_at dksL_law_99 0 rfl rfl)
theorem dL_law_2519 : decode cL_law 2519 = .ok (.iload 5, 2) := dk_21 5 (dk_at dksL_law_99 3 rfl rfl)
theorem dL_law_2521 : decode cL_law 2521 = .ok (.if_icmp .eq 5, 3) := dk_159 0 5 (dk_at dksL_law_99 5 rfl rfl)
theorem dL_law_2524 : decode cL_law 2524 = .ok (.iconst 0, 1) := dk_3 (dk_at dksL_law_99 8 rfl rfl)
theorem dL_law_2525 : decode cL_law 2525 = .ok (.ireturn, 1) := dk_172 (dk_at dksL_law_99 9 rfl rfl)
theorem dL_law_2526 : decode cL_law 2526 = .ok (.iload 5, 2) := dk_21 5 (dk_at dksL_law_99 10 rfl rfl)
theorem dL_law_2528 : decode cL_law 2528 = .ok (.ifCond .ne 15, 3) := dk_154 0 15 (dk_at dksL_law_99 12 rfl rfl)
theorem dL_law_2531 : decode cL_law 2531 = .ok (.aload_n 3, 1) := dk_45 (dk_at dksL_law_99 15 rfl rfl)
theorem dL_law_2532 : decode cL_law 2532 = .ok (.iconst 0, 1) := dk_3 (dk_at dksL_law_99 16 rfl rfl)
theorem dL_law_2533 : decode cL_law 2533 = .ok (.laload, 1) := dk_47 (dk_at dksL_law_99 17 rfl rfl)
theorem dL_law_2534 : decode cL_law 2534 = .ok (.iload 6, 2) := dk_21 6 (dk_at dksL_law_99 18 rfl rfl)
theorem dL_law_2536 : decode cL_law 2536 = .ok (.i2l, 1) := dk_133 (dk_at dksL_law_99 20 rfl rfl)
theorem dL_law_2537 : decode cL_law 2537 = .ok (.lcmp, 1) := dk_148 (dk_at dksL_law_99 21 rfl rfl)
theorem dL_law_2538 : decode cL_law 2538 = .ok (.ifCond .eq 5, 3) := dk_153 0 5 (dk_at dksL_law_100 0 rfl rfl)
theorem dL_law_2541 : decode cL_law 2541 = .ok (.iconst 0, 1) := dk_3 (dk_at dksL_law_100 3 rfl rfl)
theorem dL_law_2542 : decode cL_law 2542 = .ok (.ireturn, 1) := dk_172 (dk_at dksL_law_100 4 rfl rfl)
theorem dL_law_2543 : decode cL_law 2543 = .ok (.goto 641, 3) := dk_167 2 129 (dk_at dksL_law_100 5 rfl rfl)
theorem dL_law_2546 : decode cL_law 2546 = .ok (.aload_n 1, 1) := dk_43 (dk_at dksL_law_100 8 rfl rfl)
theorem dL_law_2547 : decode cL_law 2547 = .ok (.invokevirtual 279, 3) := dk_182 1 23 (dk_at dksL_law_100 9 rfl rfl)
theorem dL_law_2550 : decode cL_law 2550 = .ok (.aload_n 2, 1) := dk_44 (dk_at dksL_law_100 12 rfl rfl)
theorem dL_law_2551 : decode cL_law 2551 = .ok (.invokevirtual 282, 3) := dk_182 1 26 (dk_at dksL_law_100 13 rfl rfl)
theorem dL_law_2554 : decode cL_law 2554 = .ok (.if_icmp .eq 630, 3) := dk_159 2 118 (dk_at dksL_law_100 16 rfl rfl)
theorem dL_law_2557 : decode cL_law 2557 = .ok (.iconst 0, 1) := dk_3 (dk_at dksL_law_100 19 rfl rfl)
theorem dL_law_2558 : decode cL_law 2558 = .ok (.ireturn, 1) := dk_172 (dk_at dksL_law_100 20 rfl rfl)
theorem dL_law_2559 : decode cL_law 2559 = .ok (.aload_n 1, 1) := dk_43 (dk_at dksL_law_100 21 rfl rfl)
theorem dL_law_2560 : decode cL_law 2560 = .ok (.invokevirtual 283, 3) := dk_182 1 27 (dk_at dksL_law_101 0 rfl rfl)
theorem dL_law_2563 : decode cL_law 2563 = .ok (.aload_n 2, 1) := dk_44 (dk_at dksL_law_101 3 rfl rfl)
theorem dL_law_2564 : decode cL_law 2564 = .ok (.invokevirtual 286, 3) := dk_182 1 30 (dk_at dksL_law_101 4 rfl rfl)
theorem dL_law_2567 : decode cL_law 2567 = .ok (.if_icmp .eq 617, 3) := dk_159 2 105 (dk_at dksL_law_101 7 rfl rfl)
theorem dL_law_2570 : decode cL_law 2570 = .ok (.iconst 0, 1) := dk_3 (dk_at dksL_law_101 10 rfl rfl)
theorem dL_law_2571 : decode cL_law 2571 = .ok (.ireturn, 1) := dk_172 (dk_at dksL_law_101 11 rfl rfl)
theorem dL_law_2572 : decode cL_law 2572 = .ok (.aload_n 1, 1) := dk_43 (dk_at dksL_law_101 12 rfl rfl)
theorem dL_law_2573 : decode cL_law 2573 = .ok (.invokevirtual 287, 3) := dk_182 1 31 (dk_at dksL_law_101 13 rfl rfl)
theorem dL_law_2576 : decode cL_law 2576 = .ok (.aload_n 2, 1) := dk_44 (dk_at dksL_law_101 16 rfl rfl)
theorem dL_law_2577 : decode cL_law 2577 = .ok (.invokevirtual 290, 3) := dk_182 1 34 (dk_at dksL_law_101 17 rfl rfl)
theorem dL_law_2580 : decode cL_law 2580 = .ok (.if_icmp .eq 604, 3) := dk_159 2 92 (dk_at dksL_law_101 20 rfl rfl)
theorem dL_law_2583 : decode cL_law 2583 = .ok (.iconst 0, 1) := dk_3 (dk_at dksL_law_101 23 rfl rfl)
theorem dL_law_2584 : decode cL_law 2584 = .ok (.ireturn, 1) := dk_172 (dk_at dksL_law_102 0 rfl rfl)
theorem dL_law_2585 : decode cL_law 2585 = .ok (.aload_n 1, 1) := dk_43 (dk_at dksL_law_102 1 rfl rfl)
theorem dL_law_2586 : decode cL_law 2586 = .ok (.aload_n 0, 1) := dk_42 (dk_at dksL_law_102 2 rfl rfl)
theorem dL_law_2587 : decode cL_law 2587 = .ok (.iload 4, 2) := dk_21 4 (dk_at dksL_law_102 3 rfl rfl)
theorem dL_law_2589 : decode cL_law 2589 = .ok (.iconst 1, 1) := dk_4 (dk_at dksL_law_102 5 rfl rfl)
theorem dL_law_2590 : decode cL_law 2590 = .ok (.iadd, 1) := dk_96 (dk_at dksL_law_102 6 rfl rfl)
theorem dL_law_2591 : decode cL_law 2591 = .ok (.iaload, 1) := dk_46 (dk_at dksL_law_102 7 rfl rfl)
theorem dL_law_2592 : decode cL_law 2592 = .ok (.aload_n 3, 1) := dk_45 (dk_at dksL_law_102 8 rfl rfl)
theorem dL_law_2593 : decode cL_law 2593 = .ok (.invokestatic 291, 3) := dk_184 1 35 (dk_at dksL_law_102 9 rfl rfl)
theorem dL_law_2596 : decode cL_law 2596 = .ok (.istore 5, 2) := dk_54 5 (dk_at dksL_law_102 12 rfl rfl)
theorem dL_law_2598 : decode cL_law 2598 = .ok (.aload_n 2, 1) := dk_44 (dk_at dksL_law_102 14 rfl rfl)
theorem dL_law_2599 : decode cL_law 2599 = .ok (.aload_n 0, 1) := dk_42 (dk_at dksL_law_102 15 rfl rfl)
theorem dL_law_2600 : decode cL_law 2600 = .ok (.iload 4, 2) := dk_21 4 (dk_at dksL_law_102 16 rfl rfl)
theorem dL_law_2602 : decode cL_law 2602 = .ok (.iconst 1, 1) := dk_4 (dk_at dksL_law_102 18 rfl rfl)
theorem dL_law_2603 : decode cL_law 2603 = .ok (.iadd, 1) := dk_96 (dk_at dksL_law_102 19 rfl rfl)
theorem dL_law_2604 : decode cL_law 2604 = .ok (.iaload, 1) := dk_46 (dk_at dksL_law_102 20 rfl rfl)
theorem dL_law_2605 : decode cL_law 2605 = .ok (.invokevirtual 293, 3) := dk_182 1 37 (dk_at dksL_law_102 21 rfl rfl)
theorem dL_law_2608 : decode cL_law 2608 = .ok (.istore 6, 2) := dk_54 6 (dk_at dksL_law_103 0 rfl rfl)
theorem dL_law_2610 : decode cL_law 2610 = .ok (.aload_n 2, 1) := dk_44 (dk_at dksL_law_103 2 rfl rfl)
theorem dL_law_2611 : decode cL_law 2611 = .ok (.invokevirtual 159, 3) := dk_182 0 159 (dk_at dksL_law_103 3 rfl rfl)
theorem dL_law_2614 : decode cL_law 2614 = .ok (.iload 5, 2) := dk_21 5 (dk_at dksL_law_103 6 rfl rfl)
theorem dL_law_2616 : decode cL_law 2616 = .ok (.if_icmp .eq 5, 3) := dk_159 0 5 (dk_at dksL_law_103 8 rfl rfl)
theorem dL_law_2619 : decode cL_law 2619 = .ok (.iconst 0, 1) := dk_3 (dk_at dksL_law_103 11 rfl rfl)
theorem dL_law_2620 : decode cL_law 2620 = .ok (.ireturn, 1) := dk_172 (dk_at dksL_law_103 12 rfl rfl)
theorem dL_law_2621 : decode cL_law 2621 = .ok (.iload 5, 2) := dk_21 5 (dk_at dksL_law_103 13 rfl rfl)
theorem dL_law_2623 : decode cL_law 2623 = .ok (.ifCond .ne 15, 3) := dk_154 0 15 (dk_at dksL_law_103 15 rfl rfl)
theorem dL_law_2626 : decode cL_law 2626 = .ok (.aload_n 3, 1) := dk_45 (dk_at dksL_law_103 18 rfl rfl)
theorem dL_law_2627 : decode cL_law 2627 = .ok (.iconst 0, 1) := dk_3 (dk_at dksL_law_103 19 rfl rfl)
theorem dL_law_2628 : decode cL_law 2628 = .ok (.laload, 1) := dk_47 (dk_at dksL_law_103 20 rfl rfl)
theorem dL_law_2629 : decode cL_law 2629 = .ok (.iload 6, 2) := dk_21 6 (dk_at dksL_law_103 21 rfl rfl)
theorem dL_law_2631 : decode cL_law 2631 = .ok (.i2l, 1) := dk_133 (dk_at dksL_law_103 23 rfl rfl)
theorem dL_law_2632 : decode cL_law 2632 = .ok (.lcmp, 1) := dk_148 (dk_at dksL_law_104 0 rfl rfl)
theorem dL_law_2633 : decode cL_law 2633 = .ok (.ifCond .eq 5, 3) := dk_153 0 5 (dk_at dksL_law_104 1 rfl rfl)
theorem dL_law_2636 : decode cL_law 2636 = .ok (.iconst 0, 1) := dk_3 (dk_at dksL_law_104 4 rfl rfl)
theorem dL_law_2637 : decode cL_law 2637 = .ok (.ireturn, 1) := dk_172 (dk_at dksL_law_104 5 rfl rfl)
theorem dL_law_2638 : decode cL_law 2638 = .ok (.goto 546, 3) := dk_167 2 34 (dk_at dksL_law_104 6 rfl rfl)
theorem dL_law_2641 : decode cL_law 2641 = .ok (.aload_n 1, 1) := dk_43 (dk_at dksL_law_104 9 rfl rfl)
theorem dL_law_2642 : decode cL_law 2642 = .ok (.aload_n 0, 1) := dk_42 (dk_at dksL_law_104 10 rfl rfl)
theorem dL_law_2643 : decode cL_law 2643 = .ok (.iload 4, 2) := dk_21 4 (dk_at dksL_law_104 11 rfl rfl)
theorem dL_law_2645 : decode cL_law 2645 = .ok (.iconst 1, 1) := dk_4 (dk_at dksL_law_104 13 rfl rfl)
theorem dL_law_2646 : decode cL_law 2646 = .ok (.iadd, 1) := dk_96 (dk_at dksL_law_104 14 rfl rfl)
theorem dL_law_2647 : decode cL_law 2647 = .ok (.iaload, 1) := dk_46 (dk_at dksL_law_104 15 rfl rfl)
theorem dL_law_2648 : decode cL_law 2648 = .ok (.aload_n 3, 1) := dk_45 (dk_at dksL_law_104 16 rfl rfl)
theorem dL_law_2649 : decode cL_law 2649 = .ok (.invokestatic 294, 3) := dk_184 1 38 (dk_at dksL_law_104 17 rfl rfl)
theorem dL_law_2652 : decode cL_law 2652 = .ok (.istore 5, 2) := dk_54 5 (dk_at dksL_law_104 20 rfl rfl)
theorem dL_law_2654 : decode cL_law 2654 = .ok (.aload_n 2, 1) := dk_44 (dk_at dksL_law_104 22 rfl rfl)
theorem dL_law_2655 : decode cL_law 2655 = .ok (.aload_n 0, 1) := dk_42 (dk_at dksL_law_104 23 rfl rfl)
theorem dL_law_2656 : decode cL_law 2656 = .ok (.iload 4, 2) := dk_21 4 (dk_at dksL_law_105 0 rfl rfl)
theorem dL_law_2658 : decode cL_law 2658 = .ok (.iconst 1, 1) := dk_4 (dk_at dksL_law_105 2 rfl rfl)
theorem dL_law_2659 : decode cL_law 2659 = .ok (.iadd, 1) := dk_96 (dk_at dksL_law_105 3 rfl rfl)
theorem dL_law_2660 : decode cL_law 2660 = .ok (.iaload, 1) := dk_46 (dk_at dksL_law_105 4 rfl rfl)
theorem dL_law_2661 : decode cL_law 2661 = .ok (.invokevirtual 296, 3) := dk_182 1 40 (dk_at dksL_law_105 5 rfl rfl)
theorem dL_law_2664 : decode cL_law 2664 = .ok (.istore 6, 2) := dk_54 6 (dk_at dksL_law_105 8 rfl rfl)
theorem dL_law_2666 : decode cL_law 2666 = .ok (.aload_n 2, 1) := dk_44 (dk_at dksL_law_105 10 rfl rfl)
theorem dL_law_2667 : decode cL_law 2667 = .ok (.invokevirtual 159, 3) := dk_182 0 159 (dk_at dksL_law_105 11 rfl rfl)
theorem dL_law_2670 : decode cL_law 2670 = .ok (.iload 5, 2) := dk_21 5 (dk_at dksL_law_105 14 rfl rfl)
theorem dL_law_2672 : decode cL_law 2672 = .ok (.if_icmp .eq 5, 3) := dk_159 0 5 (dk_at dksL_law_105 16 rfl rfl)
theorem dL_law_2675 : decode cL_law 2675 = .ok (.iconst 0, 1) := dk_3 (dk_at dksL_law_105 19 rfl rfl)
theorem dL_law_2676 : decode cL_law 2676 = .ok (.ireturn, 1) := dk_172 (dk_at dksL_law_105 20 rfl rfl)
theorem dL_law_2677 : decode cL_law 2677 = .ok (.iload 5, 2) := dk_21 5 (dk_at dksL_law_105 21 rfl rfl)
theorem dL_law_2679 : decode cL_law 2679 = .ok (.ifCond .ne 15, 3) := dk_154 0 15 (dk_at dksL_law_106 0 rfl rfl)
theorem dL_law_2682 : decode cL_law 2682 = .ok (.aload_n 3, 1) := dk_45 (dk_at dksL_law_106 3 rfl rfl)
theorem dL_law_2683 : decode cL_law 2683 = .ok (.iconst 0, 1) := dk_3 (dk_at dksL_law_106 4 rfl rfl)
theorem dL_law_2684 : decode cL_law 2684 = .ok (.laload, 1) := dk_47 (dk_at dksL_law_106 5 rfl rfl)
theorem dL_law_2685 : decode cL_law 2685 = .ok (.iload 6, 2) := dk_21 6 (dk_at dksL_law_106 6 rfl rfl)
theorem dL_law_2687 : decode cL_law 2687 = .ok (.i2l, 1) := dk_133 (dk_at dksL_law_106 8 rfl rfl)
theorem dL_law_2688 : decode cL_law 2688 = .ok (.lcmp, 1) := dk_148 (dk_at dksL_law_106 9 rfl rfl)
theorem dL_law_2689 : decode cL_law 2689 = .ok (.ifCond .eq 5, 3) := dk_153 0 5 (dk_at dksL_law_106 10 rfl rfl)
theorem dL_law_2692 : decode cL_law 2692 = .ok (.iconst 0, 1) := dk_3 (dk_at dksL_law_106 13 rfl rfl)
theorem dL_law_2693 : decode cL_law 2693 = .ok (.ireturn, 1) := dk_172 (dk_at dksL_law_106 14 rfl rfl)
theorem dL_law_2694 : decode cL_law 2694 = .ok (.goto 490, 3) := dk_167 1 234 (dk_at dksL_law_106 15 rfl rfl)
theorem dL_law_2697 : decode cL_law 2697 = .ok (.aload_n 1, 1) := dk_43 (dk_at dksL_law_106 18 rfl rfl)
theorem dL_law_2698 : decode cL_law 2698 = .ok (.aload_n 0, 1) := dk_42 (dk_at dksL_law_106 19 rfl rfl)
theorem dL_law_2699 : decode cL_law 2699 = .ok (.iload 4, 2) := dk_21 4 (dk_at dksL_law_106 20 rfl rfl)
theorem dL_law_2701 : decode cL_law 2701 = .ok (.iconst 1, 1) := dk_4 (dk_at dksL_law_106 22 rfl rfl)
theorem dL_law_2702 : decode cL_law 2702 = .ok (.iadd, 1) := dk_96 (dk_at dksL_law_106 23 rfl rfl)
theorem dL_law_2703 : decode cL_law 2703 = .ok (.iaload, 1) := dk_46 (dk_at dksL_law_107 0 rfl rfl)
theorem dL_law_2704 : decode cL_law 2704 = .ok (.aload_n 0, 1) := dk_42 (dk_at dksL_law_107 1 rfl rfl)
theorem dL_law_2705 : decode cL_law 2705 = .ok (.iload 4, 2) := dk_21 4 (dk_at dksL_law_107 2 rfl rfl)
theorem dL_law_2707 : decode cL_law 2707 = .ok (.iconst 2, 1) := dk_5 (dk_at dksL_law_107 4 rfl rfl)
theorem dL_law_2708 : decode cL_law 2708 = .ok (.iadd, 1) := dk_96 (dk_at dksL_law_107 5 rfl rfl)
theorem dL_law_2709 : decode cL_law 2709 = .ok (.iaload, 1) := dk_46 (dk_at dksL_law_107 6 rfl rfl)
theorem dL_law_2710 : decode cL_law 2710 = .ok (.aload_n 0, 1) := dk_42 (dk_at dksL_law_107 7 rfl rfl)
theorem dL_law_2711 : decode cL_law 2711 = .ok (.iload 4, 2) := dk_21 4 (dk_at dksL_law_107 8 rfl rfl)
theorem dL_law_2713 : decode cL_law 2713 = .ok (.iconst 3, 1) := dk_6 (dk_at dksL_law_107 10 rfl rfl)
theorem dL_law_2714 : decode cL_law 2714 = .ok (.iadd, 1) := dk_96 (dk_at dksL_law_107 11 rfl rfl)
theorem dL_law_2715 : decode cL_law 2715 = .ok (.iaload, 1) := dk_46 (dk_at dksL_law_107 12 rfl rfl)
theorem dL_law_2716 : decode cL_law 2716 = .ok (.aload_n 3, 1) := dk_45 (dk_at dksL_law_107 13 rfl rfl)
theorem dL_law_2717 : decode cL_law 2717 = .ok (.invokestatic 297, 3) := dk_184 1 41 (dk_at dksL_law_107 14 rfl rfl)
theorem dL_law_2720 : decode cL_law 2720 = .ok (.istore 5, 2) := dk_54 5 (dk_at dksL_law_107 17 rfl rfl)
theorem dL_law_2722 : decode cL_law 2722 = .ok (.aload_n 2, 1) := dk_44 (dk_at dksL_law_107 19 rfl rfl)
theorem dL_law_2723 : decode cL_law 2723 = .ok (.aload_n 0, 1) := dk_42 (dk_at dksL_law_107 20 rfl rfl)
theorem dL_law_2724 : decode cL_law 2724 = .ok (.iload 4, 2) := dk_21 4 (dk_at dksL_law_107 21 rfl rfl)
theorem dL_law_2726 : decode cL_law 2726 = .ok (.iconst 1, 1) := dk_4 (dk_at dksL_law_107 23 rfl rfl)
theorem dL_law_2727 : decode cL_law 2727 = .ok (.iadd, 1) := dk_96 (dk_at dksL_law_108 0 rfl rfl)
theorem dL_law_2728 : decode cL_law 2728 = .ok (.iaload, 1) := dk_46 (dk_at dksL_law_108 1 rfl rfl)
theorem dL_law_2729 : decode cL_law 2729 = .ok (.aload_n 0, 1) := dk_42 (dk_at dksL_law_108 2 rfl rfl)
theorem dL_law_2730 : decode cL_law 2730 = .ok (.iload 4, 2) := dk_21 4 (dk_at dksL_law_108 3 rfl rfl)
theorem dL_law_2732 : decode cL_law 2732 = .ok (.iconst 2, 1) := dk_5 (dk_at dksL_law_108 5 rfl rfl)
theorem dL_law_2733 : decode cL_law 2733 = .ok (.iadd, 1) := dk_96 (dk_at dksL_law_108 6 rfl rfl)
theorem dL_law_2734 : decode cL_law 2734 = .ok (.iaload, 1) := dk_46 (dk_at dksL_law_108 7 rfl rfl)
theorem dL_law_2735 : decode cL_law 2735 = .ok (.aload_n 0, 1) := dk_42 (dk_at dksL_law_108 8 rfl rfl)
theorem dL_law_2736 : decode cL_law 2736 = .ok (.iload 4, 2) := dk_21 4 (dk_at dksL_law_108 9 rfl rfl)
theorem dL_law_2738 : decode cL_law 2738 = .ok (.iconst 3, 1) := dk_6 (dk_at dksL_law_108 11 rfl rfl)
theorem dL_law_2739 : decode cL_law 2739 = .ok (.iadd, 1) := dk_96 (dk_at dksL_law_108 12 rfl rfl)
theorem dL_law_2740 : decode cL_law 2740 = .ok (.iaload, 1) := dk_46 (dk_at dksL_law_108 13 rfl rfl)
theorem dL_law_2741 : decode cL_law 2741 = .ok (.invokevirtual 299, 3) := dk_182 1 43 (dk_at dksL_law_108 14 rfl rfl)
theorem dL_law_2744 : decode cL_law 2744 = .ok (.istore 6, 2) := dk_54 6 (dk_at dksL_law_108 17 rfl rfl)
theorem dL_law_2746 : decode cL_law 2746 = .ok (.aload_n 2, 1) := dk_44 (dk_at dksL_law_108 19 rfl rfl)
theorem dL_law_2747 : decode cL_law 2747 = .ok (.invokevirtual 159, 3) := dk_182 0 159 (dk_at dksL_law_108 20 rfl rfl)
theorem dL_law_2750 : decode cL_law 2750 = .ok (.iload 5, 2) := dk_21 5 (dk_at dksL_law_109 0 rfl rfl)
theorem dL_law_2752 : decode cL_law 2752 = .ok (.if_icmp .eq 5, 3) := dk_159 0 5 (dk_at dksL_law_109 2 rfl rfl)
theorem dL_law_2755 : decode cL_law 2755 = .ok (.iconst 0, 1) := dk_3 (dk_at dksL_law_109 5 rfl rfl)
theorem dL_law_2756 : decode cL_law 2756 = .ok (.ireturn, 1) := dk_172 (dk_at dksL_law_109 6 rfl rfl)
theorem dL_law_2757 : decode cL_law 2757 = .ok (.iload 5, 2) := dk_21 5 (dk_at dksL_law_109 7 rfl rfl)
theorem dL_law_2759 : decode cL_law 2759 = .ok (.ifCond .ne 15, 3) := dk_154 0 15 (dk_at dksL_law_109 9 rfl rfl)
theorem dL_law_2762 : decode cL_law 2762 = .ok (.aload_n 3, 1) := dk_45 (dk_at dksL_law_109 12 rfl rfl)
theorem dL_law_2763 : decode cL_law 2763 = .ok (.iconst 0, 1) := dk_3 (dk_at dksL_law_109 13 rfl rfl)
theorem dL_law_2764 : decode cL_law 2764 = .ok (.laload, 1) := dk_47 (dk_at dksL_law_109 14 rfl rfl)
theorem dL_law_2765 : decode cL_law 2765 = .ok (.iload 6, 2) := dk_21 6 (dk_at dksL_law_109 15 rfl rfl)
theorem dL_law_2767 : decode cL_law 2767 = .ok (.i2l, 1) := dk_133 (dk_at dksL_law_109 17 rfl rfl)
theorem dL_law_2768 : decode cL_law 2768 = .ok (.lcmp, 1) := dk_148 (dk_at dksL_law_109 18 rfl rfl)
theorem dL_law_2769 : decode cL_law 2769 = .ok (.ifCond .eq 5, 3) := dk_153 0 5 (dk_at dksL_law_109 19 rfl rfl)
theorem dL_law_2772 : decode cL_law 2772 = .ok (.iconst 0, 1) := dk_3 (dk_at dksL_law_109 22 rfl rfl)
theorem dL_law_2773 : decode cL_law 2773 = .ok (.ireturn, 1) := dk_172 (dk_at dksL_law_109 23 rfl rfl)
theorem dL_law_2774 : decode cL_law 2774 = .ok (.goto 410, 3) := dk_167 1 154 (dk_at dksL_law_110 0 rfl rfl)
theorem dL_law_2777 : decode cL_law 2777 = .ok (.aload_n 1, 1) := dk_43 (dk_at dksL_law_110 3 rfl rfl)
theorem dL_law_2778 : decode cL_law 2778 = .ok (.aload_n 0, 1) := dk_42 (dk_at dksL_law_110 4 rfl rfl)
theorem dL_law_2779 : decode cL_law 2779 = .ok (.iload 4, 2) := dk_21 4 (dk_at dksL_law_110 5 rfl rfl)
theorem dL_law_2781 : decode cL_law 2781 = .ok (.iconst 1, 1) := dk_4 (dk_at dksL_law_110 7 rfl rfl)
theorem dL_law_2782 : decode cL_law 2782 = .ok (.iadd, 1) := dk_96 (dk_at dksL_law_110 8 rfl rfl)
theorem dL_law_2783 : decode cL_law 2783 = .ok (.iaload, 1) := dk_46 (dk_at dksL_law_110 9 rfl rfl)
theorem dL_law_2784 : decode cL_law 2784 = .ok (.aload_n 0, 1) := dk_42 (dk_at dksL_law_110 10 rfl rfl)
theorem dL_law_2785 : decode cL_law 2785 = .ok (.iload 4, 2) := dk_21 4 (dk_at dksL_law_110 11 rfl rfl)
theorem dL_law_2787 : decode cL_law 2787 = .ok (.iconst 2, 1) := dk_5 (dk_at dksL_law_110 13 rfl rfl)
theorem dL_law_2788 : decode cL_law 2788 = .ok (.iadd, 1) := dk_96 (dk_at dksL_law_110 14 rfl rfl)
theorem dL_law_2789 : decode cL_law 2789 = .ok (.iaload, 1) := dk_46 (dk_at dksL_law_110 15 rfl rfl)
theorem dL_law_2790 : decode cL_law 2790 = .ok (.ifCond .eq 7, 3) := dk_153 0 7 (dk_at dksL_law_110 16 rfl rfl)
theorem dL_law_2793 : decode cL_law 2793 = .ok (.iconst 1, 1) := dk_4 (dk_at dksL_law_110 19 rfl rfl)
theorem dL_law_2794 : decode cL_law 2794 = .ok (.goto 4, 3) := dk_167 0 4 (dk_at dksL_law_110 20 rfl rfl)
theorem dL_law_2797 : decode cL_law 2797 = .ok (.iconst 0, 1) := dk_3 (dk_at dksL_law_110 23 rfl rfl)
theorem dL_law_2798 : decode cL_law 2798 = .ok (.aload_n 3, 1) := dk_45 (dk_at dksL_law_111 0 rfl rfl)
theorem dL_law_2799 : decode cL_law 2799 = .ok (.invokestatic 300, 3) := dk_184 1 44 (dk_at dksL_law_111 1 rfl rfl)
theorem dL_law_2802 : decode cL_law 2802 = .ok (.istore 5, 2) := dk_54 5 (dk_at dksL_law_111 4 rfl rfl)
theorem dL_law_2804 : decode cL_law 2804 = .ok (.aload_n 2, 1) := dk_44 (dk_at dksL_law_111 6 rfl rfl)
theorem dL_law_2805 : decode cL_law 2805 = .ok (.aload_n 0, 1) := dk_42 (dk_at dksL_law_111 7 rfl rfl)
theorem dL_law_2806 : decode cL_law 2806 = .ok (.iload 4, 2) := dk_21 4 (dk_at dksL_law_111 8 rfl rfl)
theorem dL_law_2808 : decode cL_law 2808 = .ok (.iconst 1, 1) := dk_4 (dk_at dksL_law_111 10 rfl rfl)
theorem dL_law_2809 : decode cL_law 2809 = .ok (.iadd, 1) := dk_96 (dk_at dksL_law_111 11 rfl rfl)
theorem dL_law_2810 : decode cL_law 2810 = .ok (.iaload, 1) := dk_46 (dk_at dksL_law_111 12 rfl rfl)
theorem dL_law_2811 : decode cL_law 2811 = .ok (.aload_n 0, 1) := dk_42 (dk_at dksL_law_111 13 rfl rfl)
theorem dL_law_2812 : decode cL_law 2812 = .ok (.iload 4, 2) := dk_21 4 (dk_at dksL_law_111 14 rfl rfl)
theorem dL_law_2814 : decode cL_law 2814 = .ok (.iconst 2, 1) := dk_5 (dk_at dksL_law_111 16 rfl rfl)
theorem dL_law_2815 : decode cL_law 2815 = .ok (.iadd, 1) := dk_96 (dk_at dksL_law_111 17 rfl rfl)
theorem dL_law_2816 : decode cL_law 2816 = .ok (.iaload, 1) := dk_46 (dk_at dksL_law_111 18 rfl rfl)
theorem dL_law_2817 : decode cL_law 2817 = .ok (.ifCond .eq 7, 3) := dk_153 0 7 (dk_at dksL_law_111 19 rfl rfl)
theorem dL_law_2820 : decode cL_law 2820 = .ok (.iconst 1, 1) := dk_4 (dk_at dksL_law_111 22 rfl rfl)
theorem dL_law_2821 : decode cL_law 2821 = .ok (.goto 4, 3) := dk_167 0 4 (dk_at dksL_law_112 0 rfl rfl)
theorem dL_law_2824 : decode cL_law 2824 = .ok (.iconst 0, 1) := dk_3 (dk_at dksL_law_112 3 rfl rfl)
theorem dL_law_2825 : decode cL_law 2825 = .ok (.invokevirtual 303, 3) := dk_182 1 47 (dk_at dksL_law_112 4 rfl rfl)
theorem dL_law_2828 : decode cL_law 2828 = .ok (.istore 6, 2) := dk_54 6 (dk_at dksL_law_112 7 rfl rfl)
theorem dL_law_2830 : decode cL_law 2830 = .ok (.aload_n 2, 1) := dk_44 (dk_at dksL_law_112 9 rfl rfl)
theorem dL_law_2831 : decode cL_law 2831 = .ok (.invokevirtual 159, 3) := dk_182 0 159 (dk_at dksL_law_112 10 rfl rfl)
theorem dL_law_2834 : decode cL_law 2834 = .ok (.iload 5, 2) := dk_21 5 (dk_at dksL_law_112 13 rfl rfl)
theorem dL_law_2836 : decode cL_law 2836 = .ok (.if_icmp .eq 5, 3) := dk_159 0 5 (dk_at dksL_law_112 15 rfl rfl)
theorem dL_law_2839 : decode cL_law 2839 = .ok (.iconst 0, 1) := dk_3 (dk_at dksL_law_112 18 rfl rfl)
theorem dL_law_2840 : decode cL_law 2840 = .ok (.ireturn, 1) := dk_172 (dk_at dksL_law_112 19 rfl rfl)
theorem dL_law_2841 : decode cL_law 2841 = .ok (.iload 5, 2) := dk_21 5 (dk_at dksL_law_112 20 rfl rfl)
theorem dL_law_2843 : decode cL_law 2843 = .ok (.ifCond .ne 15, 3) := dk_154 0 15 (dk_at dksL_law_113 0 rfl rfl)
theorem dL_law_2846 : decode cL_law 2846 = .ok (.aload_n 3, 1) := dk_45 (dk_at dksL_law_113 3 rfl rfl)
theorem dL_law_2847 : decode cL_law 2847 = .ok (.iconst 0, 1) := dk_3 (dk_at dksL_law_113 4 rfl rfl)
theorem dL_law_2848 : decode cL_law 2848 = .ok (.laload, 1) := dk_47 (dk_at dksL_law_113 5 rfl rfl)
theorem dL_law_2849 : decode cL_law 2849 = .ok (.iload 6, 2) := dk_21 6 (dk_at dksL_law_113 6 rfl rfl)
theorem dL_law_2851 : decode cL_law 2851 = .ok (.i2l, 1) := dk_133 (dk_at dksL_law_113 8 rfl rfl)
theorem dL_law_2852 : decode cL_law 2852 = .ok (.lcmp, 1) := dk_148 (dk_at dksL_law_113 9 rfl rfl)
theorem dL_law_2853 : decode cL_law 2853 = .ok (.ifCond .eq 5, 3) := dk_153 0 5 (dk_at dksL_law_113 10 rfl rfl)
theorem dL_law_2856 : decode cL_law 2856 = .ok (.iconst 0, 1) := dk_3 (dk_at dksL_law_113 13 rfl rfl)
theorem dL_law_2857 : decode cL_law 2857 = .ok (.ireturn, 1) := dk_172 (dk_at dksL_law_113 14 rfl rfl)
theorem dL_law_2858 : decode cL_law 2858 = .ok (.goto 326, 3) := dk_167 1 70 (dk_at dksL_law_113 15 rfl rfl)
theorem dL_law_2861 : decode cL_law 2861 = .ok (.aload_n 1, 1) := dk_43 (dk_at dksL_law_113 18 rfl rfl)
theorem dL_law_2862 : decode cL_law 2862 = .ok (.aload_n 0, 1) := dk_42 (dk_at dksL_law_113 19 rfl rfl)
theorem dL_law_2863 : decode cL_law 2863 = .ok (.iload 4, 2) := dk_21 4 (dk_at dksL_law_113 20 rfl rfl)
theorem dL_law_2865 : decode cL_law 2865 = .ok (.iconst 1, 1) := dk_4 (dk_at dksL_law_113 22 rfl rfl)
theorem dL_law_2866 : decode cL_law 2866 = .ok (.iadd, 1) := dk_96 (dk_at dksL_law_113 23 rfl rfl)
theorem dL_law_2867 : decode cL_law 2867 = .ok (.iaload, 1) := dk_46 (dk_at dksL_law_114 0 rfl rfl)
theorem dL_law_2868 : decode cL_law 2868 = .ok (.aload_n 0, 1) := dk_42 (dk_at dksL_law_114 1 rfl rfl)
theorem dL_law_2869 : decode cL_law 2869 = .ok (.iload 4, 2) := dk_21 4 (dk_at dksL_law_114 2 rfl rfl)
theorem dL_law_2871 : decode cL_law 2871 = .ok (.iconst 2, 1) := dk_5 (dk_at dksL_law_114 4 rfl rfl)
theorem dL_law_2872 : decode cL_law 2872 = .ok (.iadd, 1) := dk_96 (dk_at dksL_law_114 5 rfl rfl)
theorem dL_law_2873 : decode cL_law 2873 = .ok (.iaload, 1) := dk_46 (dk_at dksL_law_114 6 rfl rfl)
theorem dL_law_2874 : decode cL_law 2874 = .ok (.ifCond .eq 7, 3) := dk_153 0 7 (dk_at dksL_law_114 7 rfl rfl)
theorem dL_law_2877 : decode cL_law 2877 = .ok (.iconst 1, 1) := dk_4 (dk_at dksL_law_114 10 rfl rfl)
theorem dL_law_2878 : decode cL_law 2878 = .ok (.goto 4, 3) := dk_167 0 4 (dk_at dksL_law_114 11 rfl rfl)
theorem dL_law_2881 : decode cL_law 2881 = .ok (.iconst 0, 1) := dk_3 (dk_at dksL_law_114 14 rfl rfl)
theorem dL_law_2882 : decode cL_law 2882 = .ok (.aload_n 3, 1) := dk_45 (dk_at dksL_law_114 15 rfl rfl)
theorem dL_law_2883 : decode cL_law 2883 = .ok (.invokestatic 304, 3) := dk_184 1 48 (dk_at dksL_law_114 16 rfl rfl)
theorem dL_law_2886 : decode cL_law 2886 = .ok (.istore 5, 2) := dk_54 5 (dk_at dksL_law_114 19 rfl rfl)
theorem dL_law_2888 : decode cL_law 2888 = .ok (.aload_n 2, 1) := dk_44 (dk_at dksL_law_114 21 rfl rfl)
theorem dL_law_2889 : decode cL_law 2889 = .ok (.aload_n 0, 1) := dk_42 (dk_at dksL_law_114 22 rfl rfl)
theorem dL_law_2890 : decode cL_law 2890 = .ok (.iload 4, 2) := dk_21 4 (dk_at dksL_law_115 0 rfl rfl)
theorem dL_law_2892 : decode cL_law 2892 = .ok (.iconst 1, 1) := dk_4 (dk_at dksL_law_115 2 rfl rfl)
theorem dL_law_2893 : decode cL_law 2893 = .ok (.iadd, 1) := dk_96 (dk_at dksL_law_115 3 rfl rfl)
theorem dL_law_2894 : decode cL_law 2894 = .ok (.iaload, 1) := dk_46 (dk_at dksL_law_115 4 rfl rfl)
theorem dL_law_2895 : decode cL_law 2895 = .ok (.aload_n 0, 1) := dk_42 (dk_at dksL_law_115 5 rfl rfl)
theorem dL_law_2896 : decode cL_law 2896 = .ok (.iload 4, 2) := dk_21 4 (dk_at dksL_law_115 6 rfl rfl)
theorem dL_law_2898 : decode cL_law 2898 = .ok (.iconst 2, 1) := dk_5 (dk_at dksL_law_115 8 rfl rfl)
theorem dL_law_2899 : decode cL_law 2899 = .ok (.iadd, 1) := dk_96 (dk_at dksL_law_115 9 rfl rfl)
theorem dL_law_2900 : decode cL_law 2900 = .ok (.iaload, 1) := dk_46 (dk_at dksL_law_115 10 rfl rfl)
theorem dL_law_2901 : decode cL_law 2901 = .ok (.ifCond .eq 7, 3) := dk_153 0 7 (dk_at dksL_law_115 11 rfl rfl)
theorem dL_law_2904 : decode cL_law 2904 = .ok (.iconst 1, 1) := dk_4 (dk_at dksL_law_115 14 rfl rfl)
theorem dL_law_2905 : decode cL_law 2905 = .ok (.goto 4, 3) := dk_167 0 4 (dk_at dksL_law_115 15 rfl rfl)
theorem dL_law_2908 : decode cL_law 2908 = .ok (.iconst 0, 1) := dk_3 (dk_at dksL_law_115 18 rfl rfl)
theorem dL_law_2909 : decode cL_law 2909 = .ok (.invokevirtual 306, 3) := dk_182 1 50 (dk_at dksL_law_115 19 rfl rfl)
theorem dL_law_2912 : decode cL_law 2912 = .ok (.istore 6, 2) := dk_54 6 (dk_at dksL_law_115 22 rfl rfl)
theorem dL_law_2914 : decode cL_law 2914 = .ok (.aload_n 2, 1) := dk_44 (dk_at dksL_law_116 0 rfl rfl)
theorem dL_law_2915 : decode cL_law 2915 = .ok (.invokevirtual 159, 3) := dk_182 0 159 (dk_at dksL_law_116 1 rfl rfl)
theorem dL_law_2918 : decode cL_law 2918 = .ok (.iload 5, 2) := dk_21 5 (dk_at dksL_law_116 4 rfl rfl)
theorem dL_law_2920 : decode cL_law 2920 = .ok (.if_icmp .eq 5, 3) := dk_159 0 5 (dk_at dksL_law_116 6 rfl rfl)
theorem dL_law_2923 : decode cL_law 2923 = .ok (.iconst 0, 1) := dk_3 (dk_at dksL_law_116 9 rfl rfl)
theorem dL_law_2924 : decode cL_law 2924 = .ok (.ireturn, 1) := dk_172 (dk_at dksL_law_116 10 rfl rfl)
theorem dL_law_2925 : decode cL_law 2925 = .ok (.iload 5, 2) := dk_21 5 (dk_at dksL_law_116 11 rfl rfl)
theorem dL_law_2927 : decode cL_law 2927 = .ok (.ifCond .ne 15, 3) := dk_154 0 15 (dk_at dksL_law_116 13 rfl rfl)
theorem dL_law_2930 : decode cL_law 2930 = .ok (.aload_n 3, 1) := dk_45 (dk_at dksL_law_116 16 rfl rfl)
theorem dL_law_2931 : decode cL_law 2931 = .ok (.iconst 0, 1) := dk_3 (dk_at dksL_law_116 17 rfl rfl)
theorem dL_law_2932 : decode cL_law 2932 = .ok (.laload, 1) := dk_47 (dk_at dksL_law_116 18 rfl rfl)
theorem dL_law_2933 : decode cL_law 2933 = .ok (.iload 6, 2) := dk_21 6 (dk_at dksL_law_116 19 rfl rfl)
theorem dL_law_2935 : decode cL_law 2935 = .ok (.i2l, 1) := dk_133 (dk_at dksL_law_116 21 rfl rfl)
theorem dL_law_2936 : decode cL_law 2936 = .ok (.lcmp, 1) := dk_148 (dk_at dksL_law_116 22 rfl rfl)
theorem dL_law_2937 : decode cL_law 2937 = .ok (.ifCond .eq 5, 3) := dk_153 0 5 (dk_at dksL_law_117 0 rfl rfl)
theorem dL_law_2940 : decode cL_law 2940 = .ok (.iconst 0, 1) := dk_3 (dk_at dksL_law_117 3 rfl rfl)
theorem dL_law_2941 : decode cL_law 2941 = .ok (.ireturn, 1) := dk_172 (dk_at dksL_law_117 4 rfl rfl)
theorem dL_law_2942 : decode cL_law 2942 = .ok (.goto 242, 3) := dk_167 0 242 (dk_at dksL_law_117 5 rfl rfl)
theorem dL_law_2945 : decode cL_law 2945 = .ok (.aload_n 1, 1) := dk_43 (dk_at dksL_law_117 8 rfl rfl)
theorem dL_law_2946 : decode cL_law 2946 = .ok (.aload_n 0, 1) := dk_42 (dk_at dksL_law_117 9 rfl rfl)
theorem dL_law_2947 : decode cL_law 2947 = .ok (.iload 4, 2) := dk_21 4 (dk_at dksL_law_117 10 rfl rfl)
theorem dL_law_2949 : decode cL_law 2949 = .ok (.iconst 1, 1) := dk_4 (dk_at dksL_law_117 12 rfl rfl)
theorem dL_law_2950 : decode cL_law 2950 = .ok (.iadd, 1) := dk_96 (dk_at dksL_law_117 13 rfl rfl)
theorem dL_law_2951 : decode cL_law 2951 = .ok (.iaload, 1) := dk_46 (dk_at dksL_law_117 14 rfl rfl)
theorem dL_law_2952 : decode cL_law 2952 = .ok (.aload_n 0, 1) := dk_42 (dk_at dksL_law_117 15 rfl rfl)
theorem dL_law_2953 : decode cL_law 2953 = .ok (.iload 4, 2) := dk_21 4 (dk_at dksL_law_117 16 rfl rfl)
theorem dL_law_2955 : decode cL_law 2955 = .ok (.iconst 2, 1) := dk_5 (dk_at dksL_law_117 18 rfl rfl)
theorem dL_law_2956 : decode cL_law 2956 = .ok (.iadd, 1) := dk_96 (dk_at dksL_law_117 19 rfl rfl)
theorem dL_law_2957 : decode cL_law 2957 = .ok (.iaload, 1) := dk_46 (dk_at dksL_law_117 20 rfl rfl)
theorem dL_law_2958 : decode cL_law 2958 = .ok (.ifCond .eq 7, 3) := dk_153 0 7 (dk_at dksL_law_117 21 rfl rfl)
theorem dL_law_2961 : decode cL_law 2961 = .ok (.iconst 1, 1) := dk_4 (dk_at dksL_law_118 0 rfl rfl)
theorem dL_law_2962 : decode cL_law 2962 = .ok (.goto 4, 3) := dk_167 0 4 (dk_at dksL_law_118 1 rfl rfl)
theorem dL_law_2965 : decode cL_law 2965 = .ok (.iconst 0, 1) := dk_3 (dk_at dksL_law_118 4 rfl rfl)
theorem dL_law_2966 : decode cL_law 2966 = .ok (.aload_n 3, 1) := dk_45 (dk_at dksL_law_118 5 rfl rfl)
theorem dL_law_2967 : decode cL_law 2967 = .ok (.invokestatic 307, 3) := dk_184 1 51 (dk_at dksL_law_118 6 rfl rfl)
theorem dL_law_2970 : decode cL_law 2970 = .ok (.istore 5, 2) := dk_54 5 (dk_at dksL_law_118 9 rfl rfl)
theorem dL_law_2972 : decode cL_law 2972 = .ok (.aload_n 2, 1) := dk_44 (dk_at dksL_law_118 11 rfl rfl)
theorem dL_law_2973 : decode cL_law 2973 = .ok (.aload_n 0, 1) := dk_42 (dk_at dksL_law_118 12 rfl rfl)
theorem dL_law_2974 : decode cL_law 2974 = .ok (.iload 4, 2) := dk_21 4 (dk_at dksL_law_118 13 rfl rfl)
theorem dL_law_2976 : decode cL_law 2976 = .ok (.iconst 1, 1) := dk_4 (dk_at dksL_law_118 15 rfl rfl)
theorem dL_law_2977 : decode cL_law 2977 = .ok (.iadd, 1) := dk_96 (dk_at dksL_law_118 16 rfl rfl)
theorem dL_law_2978 : decode cL_law 2978 = .ok (.iaload, 1) := dk_46 (dk_at dksL_law_118 17 rfl rfl)
theorem dL_law_2979 : decode cL_law 2979 = .ok (.aload_n 0, 1) := dk_42 (dk_at dksL_law_118 18 rfl rfl)
theorem dL_law_2980 : decode cL_law 2980 = .ok (.iload 4, 2) := dk_21 4 (dk_at dksL_law_118 19 rfl rfl)
theorem dL_law_2982 : decode cL_law 2982 = .ok (.iconst 2, 1) := dk_5 (dk_at dksL_law_118 21 rfl rfl)
theorem dL_law_2983 : decode cL_law 2983 = .ok (.iadd, 1) := dk_96 (dk_at dksL_law_118 22 rfl rfl)
theorem dL_law_2984 : decode cL_law 2984 = .ok (.iaload, 1) := dk_46 (dk_at dksL_law_118 23 rfl rfl)
theorem dL_law_2985 : decode cL_law 2985 = .ok (.ifCond .eq 7, 3) := dk_153 0 7 (dk_at dksL_law_119 0 rfl rfl)
theorem dL_law_2988 : decode cL_law 2988 = .ok (.iconst 1, 1) := dk_4 (dk_at dksL_law_119 3 rfl rfl)
theorem dL_law_2989 : decode cL_law 2989 = .ok (.goto 4, 3) := dk_167 0 4 (dk_at dksL_law_119 4 rfl rfl)
theorem dL_law_2992 : decode cL_law 2992 = .ok (.iconst 0, 1) := dk_3 (dk_at dksL_law_119 7 rfl rfl)
theorem dL_law_2993 : decode cL_law 2993 = .ok (.invokevirtual 309, 3) := dk_182 1 53 (dk_at dksL_law_119 8 rfl rfl)
theorem dL_law_2996 : decode cL_law 2996 = .ok (.istore 6, 2) := dk_54 6 (dk_at dksL_law_119 11 rfl rfl)
theorem dL_law_2998 : decode cL_law 2998 = .ok (.aload_n 2, 1) := dk_44 (dk_at dksL_law_119 13 rfl rfl)
theorem dL_law_2999 : decode cL_law 2999 = .ok (.invokevirtual 159, 3) := dk_182 0 159 (dk_at dksL_law_119 14 rfl rfl)
theorem dL_law_3002 : decode cL_law 3002 = .ok (.iload 5, 2) := dk_21 5 (dk_at dksL_law_119 17 rfl rfl)
theorem dL_law_3004 : decode cL_law 3004 = .ok (.if_icmp .eq 5, 3) := dk_159 0 5 (dk_at dksL_law_119 19 rfl rfl)
theorem dL_law_3007 : decode cL_law 3007 = .ok (.iconst 0, 1) := dk_3 (dk_at dksL_law_119 22 rfl rfl)
theorem dL_law_3008 : decode cL_law 3008 = .ok (.ireturn, 1) := dk_172 (dk_at dksL_law_119 23 rfl rfl)
theorem dL_law_3009 : decode cL_law 3009 = .ok (.iload 5, 2) := dk_21 5 (dk_at dksL_law_120 0 rfl rfl)
theorem dL_law_3011 : decode cL_law 3011 = .ok (.ifCond .ne 15, 3) := dk_154 0 15 (dk_at dksL_law_120 2 rfl rfl)
theorem dL_law_3014 : decode cL_law 3014 = .ok (.aload_n 3, 1) := dk_45 (dk_at dksL_law_120 5 rfl rfl)
theorem dL_law_3015 : decode cL_law 3015 = .ok (.iconst 0, 1) := dk_3 (dk_at dksL_law_120 6 rfl rfl)
theorem dL_law_3016 : decode cL_law 3016 = .ok (.laload, 1) := dk_47 (dk_at dksL_law_120 7 rfl rfl)
theorem dL_law_3017 : decode cL_law 3017 = .ok (.iload 6, 2) := dk_21 6 (dk_at dksL_law_120 8 rfl rfl)
theorem dL_law_3019 : decode cL_law 3019 = .ok (.i2l, 1) := dk_133 (dk_at dksL_law_120 10 rfl rfl)
theorem dL_law_3020 : decode cL_law 3020 = .ok (.lcmp, 1) := dk_148 (dk_at dksL_law_120 11 rfl rfl)
theorem dL_law_3021 : decode cL_law 3021 = .ok (.ifCond .eq 5, 3) := dk_153 0 5 (dk_at dksL_law_120 12 rfl rfl)
theorem dL_law_3024 : decode cL_law 3024 = .ok (.iconst 0, 1) := dk_3 (dk_at dksL_law_120 15 rfl rfl)
theorem dL_law_3025 : decode cL_law 3025 = .ok (.ireturn, 1) := dk_172 (dk_at dksL_law_120 16 rfl rfl)
theorem dL_law_3026 : decode cL_law 3026 = .ok (.goto 158, 3) := dk_167 0 158 (dk_at dksL_law_120 17 rfl rfl)
theorem dL_law_3029 : decode cL_law 3029 = .ok (.aload_n 1, 1) := dk_43 (dk_at dksL_law_120 20 rfl rfl)
theorem dL_law_3030 : decode cL_law 3030 = .ok (.aload_n 0, 1) := dk_42 (dk_at dksL_law_120 21 rfl rfl)
theorem dL_law_3031 : decode cL_law 3031 = .ok (.iload 4, 2) := dk_21 4 (dk_at dksL_law_120 22 rfl rfl)
theorem dL_law_3033 : decode cL_law 3033 = .ok (.iconst 1, 1) := dk_4 (dk_at dksL_law_121 0 rfl rfl)
theorem dL_law_3034 : decode cL_law 3034 = .ok (.iadd, 1) := dk_96 (dk_at dksL_law_121 1 rfl rfl)
theorem dL_law_3035 : decode cL_law 3035 = .ok (.iaload, 1) := dk_46 (dk_at dksL_law_121 2 rfl rfl)
theorem dL_law_3036 : decode cL_law 3036 = .ok (.aload_n 0, 1) := dk_42 (dk_at dksL_law_121 3 rfl rfl)
theorem dL_law_3037 : decode cL_law 3037 = .ok (.iload 4, 2) := dk_21 4 (dk_at dksL_law_121 4 rfl rfl)
theorem dL_law_3039 : decode cL_law 3039 = .ok (.iconst 2, 1) := dk_5 (dk_at dksL_law_121 6 rfl rfl)
theorem dL_law_3040 : decode cL_law 3040 = .ok (.iadd, 1) := dk_96 (dk_at dksL_law_121 7 rfl rfl)
theorem dL_law_3041 : decode cL_law 3041 = .ok (.iaload, 1) := dk_46 (dk_at dksL_law_121 8 rfl rfl)
theorem dL_law_3042 : decode cL_law 3042 = .ok (.aload_n 3, 1) := dk_45 (dk_at dksL_law_121 9 rfl rfl)
theorem dL_law_3043 : decode cL_law 3043 = .ok (.invokestatic 310, 3) := dk_184 1 54 (dk_at dksL_law_121 10 rfl rfl)
theorem dL_law_3046 : decode cL_law 3046 = .ok (.istore 5, 2) := dk_54 5 (dk_at dksL_law_121 13 rfl rfl)
theorem dL_law_3048 : decode cL_law 3048 = .ok (.aload_n 2, 1) := dk_44 (dk_at dksL_law_121 15 rfl rfl)
theorem dL_law_3049 : decode cL_law 3049 = .ok (.aload_n 0, 1) := dk_42 (dk_at dksL_law_121 16 rfl rfl)
theorem dL_law_3050 : decode cL_law 3050 = .ok (.iload 4, 2) := dk_21 4 (dk_at dksL_law_121 17 rfl rfl)
theorem dL_law_3052 : decode cL_law 3052 = .ok (.iconst 1, 1) := dk_4 (dk_at dksL_law_121 19 rfl rfl)
theorem dL_law_3053 : decode cL_law 3053 = .ok (.iadd, 1) := dk_96 (dk_at dksL_law_121 20 rfl rfl)
theorem dL_law_3054 : decode cL_law 3054 = .ok (.iaload, 1) := dk_46 (dk_at dksL_law_121 21 rfl rfl)
theorem dL_law_3055 : decode cL_law 3055 = .ok (.aload_n 0, 1) := dk_42 (dk_at dksL_law_121 22 rfl rfl)
theorem dL_law_3056 : decode cL_law 3056 = .ok (.iload 4, 2) := dk_21 4 (dk_at dksL_law_122 0 rfl rfl)
theorem dL_law_3058 : decode cL_law 3058 = .ok (.iconst 2, 1) := dk_5 (dk_at dksL_law_122 2 rfl rfl)
theorem dL_law_3059 : decode cL_law 3059 = .ok (.iadd, 1) := dk_96 (dk_at dksL_law_122 3 rfl rfl)
theorem dL_law_3060 : decode cL_law 3060 = .ok (.iaload, 1) := dk_46 (dk_at dksL_law_122 4 rfl rfl)
theorem dL_law_3061 : decode cL_law 3061 = .ok (.invokevirtual 312, 3) := dk_182 1 56 (dk_at dksL_law_122 5 rfl rfl)
theorem dL_law_3064 : decode cL_law 3064 = .ok (.istore 6, 2) := dk_54 6 (dk_at dksL_law_122 8 rfl rfl)
theorem dL_law_3066 : decode cL_law 3066 = .ok (.aload_n 2, 1) := dk_44 (dk_at dksL_law_122 10 rfl rfl)
theorem dL_law_3067 : decode cL_law 3067 = .ok (.invokevirtual 159, 3) := dk_182 0 159 (dk_at dksL_law_122 11 rfl rfl)
theorem dL_law_3070 : decode cL_law 3070 = .ok (.iload 5, 2) := dk_21 5 (dk_at dksL_law_122 14 rfl rfl)
theorem dL_law_3072 : decode cL_law 3072 = .ok (.if_icmp .eq 5, 3) := dk_159 0 5 (dk_at dksL_law_122 16 rfl rfl)
theorem dL_law_3075 : decode cL_law 3075 = .ok (.iconst 0, 1) := dk_3 (dk_at dksL_law_122 19 rfl rfl)
theorem dL_law_3076 : decode cL_law 3076 = .ok (.ireturn, 1) := dk_172 (dk_at dksL_law_122 20 rfl rfl)
theorem dL_law_3077 : decode cL_law 3077 = .ok (.iload 5, 2) := dk_21 5 (dk_at dksL_law_122 21 rfl rfl)
theorem dL_law_3079 : decode cL_law 3079 = .ok (.ifCond .ne 15, 3) := dk_154 0 15 (dk_at dksL_law_123 0 rfl rfl)
theorem dL_law_3082 : decode cL_law 3082 = .ok (.aload_n 3, 1) := dk_45 (dk_at dksL_law_123 3 rfl rfl)
theorem dL_law_3083 : decode cL_law 3083 = .ok (.iconst 0, 1) := dk_3 (dk_at dksL_law_123 4 rfl rfl)
theorem dL_law_3084 : decode cL_law 3084 = .ok (.laload, 1) := dk_47 (dk_at dksL_law_123 5 rfl rfl)
theorem dL_law_3085 : decode cL_law 3085 = .ok (.iload 6, 2) := dk_21 6 (dk_at dksL_law_123 6 rfl rfl)
theorem dL_law_3087 : decode cL_law 3087 = .ok (.i2l, 1) := dk_133 (dk_at dksL_law_123 8 rfl rfl)
theorem dL_law_3088 : decode cL_law 3088 = .ok (.lcmp, 1) := dk_148 (dk_at dksL_law_123 9 rfl rfl)
theorem dL_law_3089 : decode cL_law 3089 = .ok (.ifCond .eq 5, 3) := dk_153 0 5 (dk_at dksL_law_123 10 rfl rfl)
theorem dL_law_3092 : decode cL_law 3092 = .ok (.iconst 0, 1) := dk_3 (dk_at dksL_law_123 13 rfl rfl)
theorem dL_law_3093 : decode cL_law 3093 = .ok (.ireturn, 1) := dk_172 (dk_at dksL_law_123 14 rfl rfl)
theorem dL_law_3094 : decode cL_law 3094 = .ok (.goto 90, 3) := dk_167 0 90 (dk_at dksL_law_123 15 rfl rfl)
theorem dL_law_3097 : decode cL_law 3097 = .ok (.aload_n 1, 1) := dk_43 (dk_at dksL_law_123 18 rfl rfl)
theorem dL_law_3098 : decode cL_law 3098 = .ok (.aload_n 0, 1) := dk_42 (dk_at dksL_law_123 19 rfl rfl)
theorem dL_law_3099 : decode cL_law 3099 = .ok (.iload 4, 2) := dk_21 4 (dk_at dksL_law_123 20 rfl rfl)
theorem dL_law_3101 : decode cL_law 3101 = .ok (.iconst 1, 1) := dk_4 (dk_at dksL_law_123 22 rfl rfl)
theorem dL_law_3102 : decode cL_law 3102 = .ok (.iadd, 1) := dk_96 (dk_at dksL_law_123 23 rfl rfl)
theorem dL_law_3103 : decode cL_law 3103 = .ok (.iaload, 1) := dk_46 (dk_at dksL_law_124 0 rfl rfl)
theorem dL_law_3104 : decode cL_law 3104 = .ok (.invokevirtual 313, 3) := dk_182 1 57 (dk_at dksL_law_124 1 rfl rfl)
theorem dL_law_3107 : decode cL_law 3107 = .ok (.aload_n 2, 1) := dk_44 (dk_at dksL_law_124 4 rfl rfl)
theorem dL_law_3108 : decode cL_law 3108 = .ok (.aload_n 0, 1) := dk_42 (dk_at dksL_law_124 5 rfl rfl)
theorem dL_law_3109 : decode cL_law 3109 = .ok (.iload 4, 2) := dk_21 4 (dk_at dksL_law_124 6 rfl rfl)
theorem dL_law_3111 : decode cL_law 3111 = .ok (.iconst 1, 1) := dk_4 (dk_at dksL_law_124 8 rfl rfl)
theorem dL_law_3112 : decode cL_law 3112 = .ok (.iadd, 1) := dk_96 (dk_at dksL_law_124 9 rfl rfl)
theorem dL_law_3113 : decode cL_law 3113 = .ok (.iaload, 1) := dk_46 (dk_at dksL_law_124 10 rfl rfl)
theorem dL_law_3114 : decode cL_law 3114 = .ok (.invokevirtual 316, 3) := dk_182 1 60 (dk_at dksL_law_124 11 rfl rfl)
theorem dL_law_3117 : decode cL_law 3117 = .ok (.if_icmp .eq 67, 3) := dk_159 0 67 (dk_at dksL_law_124 14 rfl rfl)
theorem dL_law_3120 : decode cL_law 3120 = .ok (.iconst 0, 1) := dk_3 (dk_at dksL_law_124 17 rfl rfl)
theorem dL_law_3121 : decode cL_law 3121 = .ok (.ireturn, 1) := dk_172 (dk_at dksL_law_124 18 rfl rfl)
theorem dL_law_3122 : decode cL_law 3122 = .ok (.aload_n 1, 1) := dk_43 (dk_at dksL_law_124 19 rfl rfl)
theorem dL_law_3123 : decode cL_law 3123 = .ok (.invokevirtual 317, 3) := dk_182 1 61 (dk_at dksL_law_124 20 rfl rfl)
theorem dL_law_3126 : decode cL_law 3126 = .ok (.aload_n 2, 1) := dk_44 (dk_at dksL_law_124 23 rfl rfl)
theorem dL_law_3127 : decode cL_law 3127 = .ok (.invokevirtual 321, 3) := dk_182 1 65 (dk_at dksL_law_125 0 rfl rfl)
theorem dL_law_3130 : decode cL_law 3130 = .ok (.if_icmp .eq 54, 3) := dk_159 0 54 (dk_at dksL_law_125 3 rfl rfl)
theorem dL_law_3133 : decode cL_law 3133 = .ok (.iconst 0, 1) := dk_3 (dk_at dksL_law_125 6 rfl rfl)
theorem dL_law_3134 : decode cL_law 3134 = .ok (.ireturn, 1) := dk_172 (dk_at dksL_law_125 7 rfl rfl)
theorem dL_law_3135 : decode cL_law 3135 = .ok (.aload_n 1, 1) := dk_43 (dk_at dksL_law_125 8 rfl rfl)
theorem dL_law_3136 : decode cL_law 3136 = .ok (.invokevirtual 322, 3) := dk_182 1 66 (dk_at dksL_law_125 9 rfl rfl)
theorem dL_law_3139 : decode cL_law 3139 = .ok (.aload_n 2, 1) := dk_44 (dk_at dksL_law_125 12 rfl rfl)
theorem dL_law_3140 : decode cL_law 3140 = .ok (.invokevirtual 325, 3) := dk_182 1 69 (dk_at dksL_law_125 13 rfl rfl)
theorem dL_law_3143 : decode cL_law 3143 = .ok (.goto 41, 3) := dk_167 0 41 (dk_at dksL_law_125 16 rfl rfl)
theorem dL_law_3146 : decode cL_law 3146 = .ok (.aload_n 1, 1) := dk_43 (dk_at dksL_law_125 19 rfl rfl)
theorem dL_law_3147 : decode cL_law 3147 = .ok (.invokevirtual 326, 3) := dk_182 1 70 (dk_at dksL_law_125 20 rfl rfl)
theorem dL_law_3150 : decode cL_law 3150 = .ok (.aload_n 2, 1) := dk_44 (dk_at dksL_law_125 23 rfl rfl)
theorem dL_law_3151 : decode cL_law 3151 = .ok (.invokevirtual 329, 3) := dk_182 1 73 (dk_at dksL_law_126 0 rfl rfl)
theorem dL_law_3154 : decode cL_law 3154 = .ok (.if_icmp .eq 30, 3) := dk_159 0 30 (dk_at dksL_law_126 3 rfl rfl)
theorem dL_law_3157 : decode cL_law 3157 = .ok (.iconst 0, 1) := dk_3 (dk_at dksL_law_126 6 rfl rfl)
theorem dL_law_3158 : decode cL_law 3158 = .ok (.ireturn, 1) := dk_172 (dk_at dksL_law_126 7 rfl rfl)
theorem dL_law_3159 : decode cL_law 3159 = .ok (.aload_n 1, 1) := dk_43 (dk_at dksL_law_126 8 rfl rfl)
theorem dL_law_3160 : decode cL_law 3160 = .ok (.aload_n 0, 1) := dk_42 (dk_at dksL_law_126 9 rfl rfl)
theorem dL_law_3161 : decode cL_law 3161 = .ok (.iload 4, 2) := dk_21 4 (dk_at dksL_law_126 10 rfl rfl)
theorem dL_law_3163 : decode cL_law 3163 = .ok (.iconst 1, 1) := dk_4 (dk_at dksL_law_126 12 rfl rfl)
theorem dL_law_3164 : decode cL_law 3164 = .ok (.iadd, 1) := dk_96 (dk_at dksL_law_126 13 rfl rfl)
theorem dL_law_3165 : decode cL_law 3165 = .ok (.iaload, 1) := dk_46 (dk_at dksL_law_126 14 rfl rfl)
theorem dL_law_3166 : decode cL_law 3166 = .ok (.invokevirtual 330, 3) := dk_182 1 74 (dk_at dksL_law_126 15 rfl rfl)
theorem dL_law_3169 : decode cL_law 3169 = .ok (.aload_n 2, 1) := dk_44 (dk_at dksL_law_126 18 rfl rfl)
theorem dL_law_3170 : decode cL_law 3170 = .ok (.aload_n 0, 1) := dk_42 (dk_at dksL_law_126 19 rfl rfl)
theorem dL_law_3171 : decode cL_law 3171 = .ok (.iload 4, 2) := dk_21 4 (dk_at dksL_law_126 20 rfl rfl)
theorem dL_law_3173 : decode cL_law 3173 = .ok (.iconst 1, 1) := dk_4 (dk_at dksL_law_126 22 rfl rfl)
theorem dL_law_3174 : decode cL_law 3174 = .ok (.iadd, 1) := dk_96 (dk_at dksL_law_126 23 rfl rfl)
theorem dL_law_3175 : decode cL_law 3175 = .ok (.iaload, 1) := dk_46 (dk_at dksL_law_127 0 rfl rfl)
theorem dL_law_3176 : decode cL_law 3176 = .ok (.invokevirtual 333, 3) := dk_182 1 77 (dk_at dksL_law_127 1 rfl rfl)
theorem dL_law_3179 : decode cL_law 3179 = .ok (.if_icmp .eq 5, 3) := dk_159 0 5 (dk_at dksL_law_127 4 rfl rfl)
theorem dL_law_3182 : decode cL_law 3182 = .ok (.iconst 0, 1) := dk_3 (dk_at dksL_law_127 7 rfl rfl)
theorem dL_law_3183 : decode cL_law 3183 = .ok (.ireturn, 1) := dk_172 (dk_at dksL_law_127 8 rfl rfl)
theorem dL_law_3184 : decode cL_law 3184 = .ok (.iinc 4 6, 3) := dk_132 4 6 (dk_at dksL_law_127 9 rfl rfl)
theorem dL_law_3187 : decode cL_law 3187 = .ok (.goto (-3164), 3) := dk_167 243 164 (dk_at dksL_law_127 12 rfl rfl)
theorem dL_law_3190 : decode cL_law 3190 = .ok (.iconst 1, 1) := dk_4 (dk_at dksL_law_127 15 rfl rfl)
theorem dL_law_3191 : decode cL_law 3191 = .ok (.ireturn, 1) := dk_172 (dk_at dksL_law_127 16 rfl rfl)
