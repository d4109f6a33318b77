/-! VisitingHours$Reader -/
set_option maxRecDepth 100000
def RX3 : String := "VisitingHours$Reader"
def TX3 : u_T := fun k => match k with
  | 0 => ("VisitingHours$Reader", "tape", "[B", true)
  | 1 => ("VisitingHours$Reader", "length", "I", false)
  | 2 => ("VisitingHours$Reader", "end", "I", false)
  | 3 => ("VisitingHours$Reader", "at", "I", false)
  | 4 => ("VisitingHours$Reader", "begin", "I", false)
  | 5 => ("VisitingHours$Reader", "fault", "I", false)
  | _ => ("VisitingHours$Reader", "deep", "I", false)
def tyX3 : Nat → FieldType := fun k => match k with
  | 0 => .array .byte
  | 1 => .int
  | 2 => .int
  | 3 => .int
  | 4 => .int
  | 5 => .int
  | _ => .int
abbrev wsX30 : List Cond := u_ws RX3 TX3 7
theorem nmX3 : ∀ a, a < 7 → ∀ b, b < 7 → a ≠ b → (TX3 a).2.1 ≠ (TX3 b).2.1 := by decide +kernel
theorem tyX3_ok : ∀ k, k < 7 → parseFieldDescriptor (TX3 k).2.2.1 = some (tyX3 k) := by decide +kernel
abbrev cX3_init : ByteArray := prog_11_method_1_code
def yX3_init : MethodName := ⟨RX3, "<init>", "()V"⟩
def dkwX3_init_0 : List UInt8 := [42, 183, 0, 3, 42, 17, 1, 144, 188, 8, 181, 0, 9, 42, 2, 181, 0, 15, 177]
abbrev dktX3_init_0 : List UInt8 := dkwX3_init_0 ++ []
theorem dksX3_init_0 : cX3_init.data.toList.drop 0 = dktX3_init_0 := by decide +kernel
theorem dX3_init_0 : decode cX3_init 0 = .ok (.aload_n 0, 1) := dk_42 (dk_at dksX3_init_0 0 rfl rfl)
theorem dX3_init_1 : decode cX3_init 1 = .ok (.invokespecial 3, 3) := dk_183 0 3 (dk_at dksX3_init_0 1 rfl rfl)
theorem dX3_init_4 : decode cX3_init 4 = .ok (.aload_n 0, 1) := dk_42 (dk_at dksX3_init_0 4 rfl rfl)
theorem dX3_init_5 : decode cX3_init 5 = .ok (.sipush 400, 3) := dk_17 1 144 (dk_at dksX3_init_0 5 rfl rfl)
theorem dX3_init_8 : decode cX3_init 8 = .ok (.newarray .byte, 2) := dk_188_8 (dk_at dksX3_init_0 8 rfl rfl)
theorem dX3_init_10 : decode cX3_init 10 = .ok (.putfield 9, 3) := dk_181 0 9 (dk_at dksX3_init_0 10 rfl rfl)
theorem dX3_init_13 : decode cX3_init 13 = .ok (.aload_n 0, 1) := dk_42 (dk_at dksX3_init_0 13 rfl rfl)
theorem dX3_init_14 : decode cX3_init 14 = .ok (.iconst (-1), 1) := dk_2 (dk_at dksX3_init_0 14 rfl rfl)
theorem dX3_init_15 : decode cX3_init 15 = .ok (.putfield 15, 3) := dk_181 0 15 (dk_at dksX3_init_0 15 rfl rfl)
theorem dX3_init_18 : decode cX3_init 18 = .ok (.return_, 1) := dk_177 (dk_at dksX3_init_0 18 rfl rfl)
abbrev cX3_add : ByteArray := prog_11_method_2_code
def yX3_add : MethodName := ⟨RX3, "add", "([I)I"⟩
def dkwX3_add_3 : List UInt8 := [132, 6, 248, 167, 255, 223, 132, 4, 1, 167, 255, 201, 42, 180, 0, 19, 172]
abbrev dktX3_add_3 : List UInt8 := dkwX3_add_3 ++ []
def dkwX3_add_2 : List UInt8 := [180, 0, 9, 42, 180, 0, 19, 21, 5, 21, 6, 122, 145, 84, 42, 89, 180, 0, 19, 4, 96, 181, 0, 19]
abbrev dktX3_add_2 : List UInt8 := dkwX3_add_2 ++ dktX3_add_3
def dkwX3_add_1 : List UInt8 := [21, 4, 29, 162, 0, 55, 44, 21, 4, 46, 54, 5, 16, 24, 54, 6, 21, 6, 155, 0, 34, 42]
abbrev dktX3_add_1 : List UInt8 := dkwX3_add_1 ++ dktX3_add_2
def dkwX3_add_0 : List UInt8 := [42, 180, 0, 19, 16, 20, 96, 17, 1, 144, 164, 0, 5, 2, 172, 43, 77, 44, 190, 62, 3, 54, 4]
abbrev dktX3_add_0 : List UInt8 := dkwX3_add_0 ++ dktX3_add_1
theorem dksX3_add_0 : cX3_add.data.toList.drop 0 = dktX3_add_0 := by decide +kernel
theorem dksX3_add_1 : cX3_add.data.toList.drop 23 = dktX3_add_1 := dk_seg dksX3_add_0 23 rfl rfl
theorem dksX3_add_2 : cX3_add.data.toList.drop 45 = dktX3_add_2 := dk_seg dksX3_add_1 22 rfl rfl
theorem dksX3_add_3 : cX3_add.data.toList.drop 69 = dktX3_add_3 := dk_seg dksX3_add_2 24 rfl rfl
theorem dX3_add_0 : decode cX3_add 0 = .ok (.aload_n 0, 1) := dk_42 (dk_at dksX3_add_0 0 rfl rfl)
theorem dX3_add_1 : decode cX3_add 1 = .ok (.getfield 19, 3) := dk_180 0 19 (dk_at dksX3_add_0 1 rfl rfl)
theorem dX3_add_4 : decode cX3_add 4 = .ok (.bipush 20, 2) := dk_16 20 (dk_at dksX3_add_0 4 rfl rfl)
theorem dX3_add_6 : decode cX3_add 6 = .ok (.iadd, 1) := dk_96 (dk_at dksX3_add_0 6 rfl rfl)
theorem dX3_add_7 : decode cX3_add 7 = .ok (.sipush 400, 3) := dk_17 1 144 (dk_at dksX3_add_0 7 rfl rfl)
theorem dX3_add_10 : decode cX3_add 10 = .ok (.if_icmp .le 5, 3) := dk_164 0 5 (dk_at dksX3_add_0 10 rfl rfl)
theorem dX3_add_13 : decode cX3_add 13 = .ok (.iconst (-1), 1) := dk_2 (dk_at dksX3_add_0 13 rfl rfl)
theorem dX3_add_14 : decode cX3_add 14 = .ok (.ireturn, 1) := dk_172 (dk_at dksX3_add_0 14 rfl rfl)
theorem dX3_add_15 : decode cX3_add 15 = .ok (.aload_n 1, 1) := dk_43 (dk_at dksX3_add_0 15 rfl rfl)
theorem dX3_add_16 : decode cX3_add 16 = .ok (.astore_n 2, 1) := dk_77 (dk_at dksX3_add_0 16 rfl rfl)
theorem dX3_add_17 : decode cX3_add 17 = .ok (.aload_n 2, 1) := dk_44 (dk_at dksX3_add_0 17 rfl rfl)
theorem dX3_add_18 : decode cX3_add 18 = .ok (.arraylength, 1) := dk_190 (dk_at dksX3_add_0 18 rfl rfl)
theorem dX3_add_19 : decode cX3_add 19 = .ok (.istore_n 3, 1) := dk_62 (dk_at dksX3_add_0 19 rfl rfl)
theorem dX3_add_20 : decode cX3_add 20 = .ok (.iconst 0, 1) := dk_3 (dk_at dksX3_add_0 20 rfl rfl)
theorem dX3_add_21 : decode cX3_add 21 = .ok (.istore 4, 2) := dk_54 4 (dk_at dksX3_add_0 21 rfl rfl)
theorem dX3_add_23 : decode cX3_add 23 = .ok (.iload 4, 2) := dk_21 4 (dk_at dksX3_add_1 0 rfl rfl)
theorem dX3_add_25 : decode cX3_add 25 = .ok (.iload_n 3, 1) := dk_29 (dk_at dksX3_add_1 2 rfl rfl)
theorem dX3_add_26 : decode cX3_add 26 = .ok (.if_icmp .ge 55, 3) := dk_162 0 55 (dk_at dksX3_add_1 3 rfl rfl)
theorem dX3_add_29 : decode cX3_add 29 = .ok (.aload_n 2, 1) := dk_44 (dk_at dksX3_add_1 6 rfl rfl)
theorem dX3_add_30 : decode cX3_add 30 = .ok (.iload 4, 2) := dk_21 4 (dk_at dksX3_add_1 7 rfl rfl)
theorem dX3_add_32 : decode cX3_add 32 = .ok (.iaload, 1) := dk_46 (dk_at dksX3_add_1 9 rfl rfl)
theorem dX3_add_33 : decode cX3_add 33 = .ok (.istore 5, 2) := dk_54 5 (dk_at dksX3_add_1 10 rfl rfl)
theorem dX3_add_35 : decode cX3_add 35 = .ok (.bipush 24, 2) := dk_16 24 (dk_at dksX3_add_1 12 rfl rfl)
theorem dX3_add_37 : decode cX3_add 37 = .ok (.istore 6, 2) := dk_54 6 (dk_at dksX3_add_1 14 rfl rfl)
theorem dX3_add_39 : decode cX3_add 39 = .ok (.iload 6, 2) := dk_21 6 (dk_at dksX3_add_1 16 rfl rfl)
theorem dX3_add_41 : decode cX3_add 41 = .ok (.ifCond .lt 34, 3) := dk_155 0 34 (dk_at dksX3_add_1 18 rfl rfl)
theorem dX3_add_44 : decode cX3_add 44 = .ok (.aload_n 0, 1) := dk_42 (dk_at dksX3_add_1 21 rfl rfl)
theorem dX3_add_45 : decode cX3_add 45 = .ok (.getfield 9, 3) := dk_180 0 9 (dk_at dksX3_add_2 0 rfl rfl)
theorem dX3_add_48 : decode cX3_add 48 = .ok (.aload_n 0, 1) := dk_42 (dk_at dksX3_add_2 3 rfl rfl)
theorem dX3_add_49 : decode cX3_add 49 = .ok (.getfield 19, 3) := dk_180 0 19 (dk_at dksX3_add_2 4 rfl rfl)
theorem dX3_add_52 : decode cX3_add 52 = .ok (.iload 5, 2) := dk_21 5 (dk_at dksX3_add_2 7 rfl rfl)
theorem dX3_add_54 : decode cX3_add 54 = .ok (.iload 6, 2) := dk_21 6 (dk_at dksX3_add_2 9 rfl rfl)
theorem dX3_add_56 : decode cX3_add 56 = .ok (.ishr, 1) := dk_122 (dk_at dksX3_add_2 11 rfl rfl)
theorem dX3_add_57 : decode cX3_add 57 = .ok (.i2b, 1) := dk_145 (dk_at dksX3_add_2 12 rfl rfl)
theorem dX3_add_58 : decode cX3_add 58 = .ok (.bastore, 1) := dk_84 (dk_at dksX3_add_2 13 rfl rfl)
theorem dX3_add_59 : decode cX3_add 59 = .ok (.aload_n 0, 1) := dk_42 (dk_at dksX3_add_2 14 rfl rfl)
theorem dX3_add_60 : decode cX3_add 60 = .ok (.dup, 1) := dk_89 (dk_at dksX3_add_2 15 rfl rfl)
theorem dX3_add_61 : decode cX3_add 61 = .ok (.getfield 19, 3) := dk_180 0 19 (dk_at dksX3_add_2 16 rfl rfl)
theorem dX3_add_64 : decode cX3_add 64 = .ok (.iconst 1, 1) := dk_4 (dk_at dksX3_add_2 19 rfl rfl)
theorem dX3_add_65 : decode cX3_add 65 = .ok (.iadd, 1) := dk_96 (dk_at dksX3_add_2 20 rfl rfl)
theorem dX3_add_66 : decode cX3_add 66 = .ok (.putfield 19, 3) := dk_181 0 19 (dk_at dksX3_add_2 21 rfl rfl)
theorem dX3_add_69 : decode cX3_add 69 = .ok (.iinc 6 (-8), 3) := dk_132 6 248 (dk_at dksX3_add_3 0 rfl rfl)
theorem dX3_add_72 : decode cX3_add 72 = .ok (.goto (-33), 3) := dk_167 255 223 (dk_at dksX3_add_3 3 rfl rfl)
theorem dX3_add_75 : decode cX3_add 75 = .ok (.iinc 4 1, 3) := dk_132 4 1 (dk_at dksX3_add_3 6 rfl rfl)
theorem dX3_add_78 : decode cX3_add 78 = .ok (.goto (-55), 3) := dk_167 255 201 (dk_at dksX3_add_3 9 rfl rfl)
theorem dX3_add_81 : decode cX3_add 81 = .ok (.aload_n 0, 1) := dk_42 (dk_at dksX3_add_3 12 rfl rfl)
theorem dX3_add_82 : decode cX3_add 82 = .ok (.getfield 19, 3) := dk_180 0 19 (dk_at dksX3_add_3 13 rfl rfl)
theorem dX3_add_85 : decode cX3_add 85 = .ok (.ireturn, 1) := dk_172 (dk_at dksX3_add_3 16 rfl rfl)
abbrev cX3_cut : ByteArray := prog_11_method_3_code
def yX3_cut : MethodName := ⟨RX3, "cut", "(I)Z"⟩
def dkwX3_cut_0 : List UInt8 := [27, 155, 0, 11, 27, 42, 180, 0, 19, 164, 0, 5, 3, 172, 42, 27, 181, 0, 19, 4, 172]
abbrev dktX3_cut_0 : List UInt8 := dkwX3_cut_0 ++ []
theorem dksX3_cut_0 : cX3_cut.data.toList.drop 0 = dktX3_cut_0 := by decide +kernel
theorem dX3_cut_0 : decode cX3_cut 0 = .ok (.iload_n 1, 1) := dk_27 (dk_at dksX3_cut_0 0 rfl rfl)
theorem dX3_cut_1 : decode cX3_cut 1 = .ok (.ifCond .lt 11, 3) := dk_155 0 11 (dk_at dksX3_cut_0 1 rfl rfl)
theorem dX3_cut_4 : decode cX3_cut 4 = .ok (.iload_n 1, 1) := dk_27 (dk_at dksX3_cut_0 4 rfl rfl)
theorem dX3_cut_5 : decode cX3_cut 5 = .ok (.aload_n 0, 1) := dk_42 (dk_at dksX3_cut_0 5 rfl rfl)
theorem dX3_cut_6 : decode cX3_cut 6 = .ok (.getfield 19, 3) := dk_180 0 19 (dk_at dksX3_cut_0 6 rfl rfl)
theorem dX3_cut_9 : decode cX3_cut 9 = .ok (.if_icmp .le 5, 3) := dk_164 0 5 (dk_at dksX3_cut_0 9 rfl rfl)
theorem dX3_cut_12 : decode cX3_cut 12 = .ok (.iconst 0, 1) := dk_3 (dk_at dksX3_cut_0 12 rfl rfl)
theorem dX3_cut_13 : decode cX3_cut 13 = .ok (.ireturn, 1) := dk_172 (dk_at dksX3_cut_0 13 rfl rfl)
theorem dX3_cut_14 : decode cX3_cut 14 = .ok (.aload_n 0, 1) := dk_42 (dk_at dksX3_cut_0 14 rfl rfl)
theorem dX3_cut_15 : decode cX3_cut 15 = .ok (.iload_n 1, 1) := dk_27 (dk_at dksX3_cut_0 15 rfl rfl)
theorem dX3_cut_16 : decode cX3_cut 16 = .ok (.putfield 19, 3) := dk_181 0 19 (dk_at dksX3_cut_0 16 rfl rfl)
theorem dX3_cut_19 : decode cX3_cut 19 = .ok (.iconst 1, 1) := dk_4 (dk_at dksX3_cut_0 19 rfl rfl)
theorem dX3_cut_20 : decode cX3_cut 20 = .ok (.ireturn, 1) := dk_172 (dk_at dksX3_cut_0 20 rfl rfl)
abbrev cX3_begins : ByteArray := prog_11_method_4_code
def yX3_begins : MethodName := ⟨RX3, "begins", "()V"⟩
def dkwX3_begins_0 : List UInt8 := [42, 42, 180, 0, 19, 181, 0, 22, 42, 3, 181, 0, 19, 42, 3, 181, 0, 25, 42, 3, 181, 0, 28, 177]
abbrev dktX3_begins_0 : List UInt8 := dkwX3_begins_0 ++ []
theorem dksX3_begins_0 : cX3_begins.data.toList.drop 0 = dktX3_begins_0 := by decide +kernel
theorem dX3_begins_0 : decode cX3_begins 0 = .ok (.aload_n 0, 1) := dk_42 (dk_at dksX3_begins_0 0 rfl rfl)
theorem dX3_begins_1 : decode cX3_begins 1 = .ok (.aload_n 0, 1) := dk_42 (dk_at dksX3_begins_0 1 rfl rfl)
theorem dX3_begins_2 : decode cX3_begins 2 = .ok (.getfield 19, 3) := dk_180 0 19 (dk_at dksX3_begins_0 2 rfl rfl)
theorem dX3_begins_5 : decode cX3_begins 5 = .ok (.putfield 22, 3) := dk_181 0 22 (dk_at dksX3_begins_0 5 rfl rfl)
theorem dX3_begins_8 : decode cX3_begins 8 = .ok (.aload_n 0, 1) := dk_42 (dk_at dksX3_begins_0 8 rfl rfl)
theorem dX3_begins_9 : decode cX3_begins 9 = .ok (.iconst 0, 1) := dk_3 (dk_at dksX3_begins_0 9 rfl rfl)
theorem dX3_begins_10 : decode cX3_begins 10 = .ok (.putfield 19, 3) := dk_181 0 19 (dk_at dksX3_begins_0 10 rfl rfl)
theorem dX3_begins_13 : decode cX3_begins 13 = .ok (.aload_n 0, 1) := dk_42 (dk_at dksX3_begins_0 13 rfl rfl)
theorem dX3_begins_14 : decode cX3_begins 14 = .ok (.iconst 0, 1) := dk_3 (dk_at dksX3_begins_0 14 rfl rfl)
theorem dX3_begins_15 : decode cX3_begins 15 = .ok (.putfield 25, 3) := dk_181 0 25 (dk_at dksX3_begins_0 15 rfl rfl)
theorem dX3_begins_18 : decode cX3_begins 18 = .ok (.aload_n 0, 1) := dk_42 (dk_at dksX3_begins_0 18 rfl rfl)
theorem dX3_begins_19 : decode cX3_begins 19 = .ok (.iconst 0, 1) := dk_3 (dk_at dksX3_begins_0 19 rfl rfl)
theorem dX3_begins_20 : decode cX3_begins 20 = .ok (.putfield 28, 3) := dk_181 0 28 (dk_at dksX3_begins_0 20 rfl rfl)
theorem dX3_begins_23 : decode cX3_begins 23 = .ok (.return_, 1) := dk_177 (dk_at dksX3_begins_0 23 rfl rfl)
abbrev cX3_isOver : ByteArray := prog_11_method_7_code
def yX3_isOver : MethodName := ⟨RX3, "isOver", "()Z"⟩
def dkwX3_isOver_0 : List UInt8 := [42, 182, 0, 38, 42, 180, 0, 25, 42, 180, 0, 22, 160, 0, 7, 4, 167, 0, 4, 3, 172]
abbrev dktX3_isOver_0 : List UInt8 := dkwX3_isOver_0 ++ []
theorem dksX3_isOver_0 : cX3_isOver.data.toList.drop 0 = dktX3_isOver_0 := by decide +kernel
theorem dX3_isOver_0 : decode cX3_isOver 0 = .ok (.aload_n 0, 1) := dk_42 (dk_at dksX3_isOver_0 0 rfl rfl)
theorem dX3_isOver_1 : decode cX3_isOver 1 = .ok (.invokevirtual 38, 3) := dk_182 0 38 (dk_at dksX3_isOver_0 1 rfl rfl)
theorem dX3_isOver_4 : decode cX3_isOver 4 = .ok (.aload_n 0, 1) := dk_42 (dk_at dksX3_isOver_0 4 rfl rfl)
theorem dX3_isOver_5 : decode cX3_isOver 5 = .ok (.getfield 25, 3) := dk_180 0 25 (dk_at dksX3_isOver_0 5 rfl rfl)
theorem dX3_isOver_8 : decode cX3_isOver 8 = .ok (.aload_n 0, 1) := dk_42 (dk_at dksX3_isOver_0 8 rfl rfl)
theorem dX3_isOver_9 : decode cX3_isOver 9 = .ok (.getfield 22, 3) := dk_180 0 22 (dk_at dksX3_isOver_0 9 rfl rfl)
theorem dX3_isOver_12 : decode cX3_isOver 12 = .ok (.if_icmp .ne 7, 3) := dk_160 0 7 (dk_at dksX3_isOver_0 12 rfl rfl)
theorem dX3_isOver_15 : decode cX3_isOver 15 = .ok (.iconst 1, 1) := dk_4 (dk_at dksX3_isOver_0 15 rfl rfl)
theorem dX3_isOver_16 : decode cX3_isOver 16 = .ok (.goto 4, 3) := dk_167 0 4 (dk_at dksX3_isOver_0 16 rfl rfl)
theorem dX3_isOver_19 : decode cX3_isOver 19 = .ok (.iconst 0, 1) := dk_3 (dk_at dksX3_isOver_0 19 rfl rfl)
theorem dX3_isOver_20 : decode cX3_isOver 20 = .ok (.ireturn, 1) := dk_172 (dk_at dksX3_isOver_0 20 rfl rfl)
abbrev cX3_blanks : ByteArray := prog_11_method_6_code
def yX3_blanks : MethodName := ⟨RX3, "blanks", "()V"⟩
def dkwX3_blanks_1 : List UInt8 := [167, 255, 233, 42, 42, 180, 0, 25, 181, 0, 35, 177]
abbrev dktX3_blanks_1 : List UInt8 := dkwX3_blanks_1 ++ []
def dkwX3_blanks_0 : List UInt8 := [42, 42, 180, 0, 25, 182, 0, 31, 16, 32, 160, 0, 16, 42, 89, 180, 0, 25, 4, 96, 181, 0, 25]
abbrev dktX3_blanks_0 : List UInt8 := dkwX3_blanks_0 ++ dktX3_blanks_1
theorem dksX3_blanks_0 : cX3_blanks.data.toList.drop 0 = dktX3_blanks_0 := by decide +kernel
theorem dksX3_blanks_1 : cX3_blanks.data.toList.drop 23 = dktX3_blanks_1 := dk_seg dksX3_blanks_0 23 rfl rfl
theorem dX3_blanks_0 : decode cX3_blanks 0 = .ok (.aload_n 0, 1) := dk_42 (dk_at dksX3_blanks_0 0 rfl rfl)
theorem dX3_blanks_1 : decode cX3_blanks 1 = .ok (.aload_n 0, 1) := dk_42 (dk_at dksX3_blanks_0 1 rfl rfl)
theorem dX3_blanks_2 : decode cX3_blanks 2 = .ok (.getfield 25, 3) := dk_180 0 25 (dk_at dksX3_blanks_0 2 rfl rfl)
theorem dX3_blanks_5 : decode cX3_blanks 5 = .ok (.invokevirtual 31, 3) := dk_182 0 31 (dk_at dksX3_blanks_0 5 rfl rfl)
theorem dX3_blanks_8 : decode cX3_blanks 8 = .ok (.bipush 32, 2) := dk_16 32 (dk_at dksX3_blanks_0 8 rfl rfl)
theorem dX3_blanks_10 : decode cX3_blanks 10 = .ok (.if_icmp .ne 16, 3) := dk_160 0 16 (dk_at dksX3_blanks_0 10 rfl rfl)
theorem dX3_blanks_13 : decode cX3_blanks 13 = .ok (.aload_n 0, 1) := dk_42 (dk_at dksX3_blanks_0 13 rfl rfl)
theorem dX3_blanks_14 : decode cX3_blanks 14 = .ok (.dup, 1) := dk_89 (dk_at dksX3_blanks_0 14 rfl rfl)
theorem dX3_blanks_15 : decode cX3_blanks 15 = .ok (.getfield 25, 3) := dk_180 0 25 (dk_at dksX3_blanks_0 15 rfl rfl)
theorem dX3_blanks_18 : decode cX3_blanks 18 = .ok (.iconst 1, 1) := dk_4 (dk_at dksX3_blanks_0 18 rfl rfl)
theorem dX3_blanks_19 : decode cX3_blanks 19 = .ok (.iadd, 1) := dk_96 (dk_at dksX3_blanks_0 19 rfl rfl)
theorem dX3_blanks_20 : decode cX3_blanks 20 = .ok (.putfield 25, 3) := dk_181 0 25 (dk_at dksX3_blanks_0 20 rfl rfl)
theorem dX3_blanks_23 : decode cX3_blanks 23 = .ok (.goto (-23), 3) := dk_167 255 233 (dk_at dksX3_blanks_1 0 rfl rfl)
theorem dX3_blanks_26 : decode cX3_blanks 26 = .ok (.aload_n 0, 1) := dk_42 (dk_at dksX3_blanks_1 3 rfl rfl)
theorem dX3_blanks_27 : decode cX3_blanks 27 = .ok (.aload_n 0, 1) := dk_42 (dk_at dksX3_blanks_1 4 rfl rfl)
theorem dX3_blanks_28 : decode cX3_blanks 28 = .ok (.getfield 25, 3) := dk_180 0 25 (dk_at dksX3_blanks_1 5 rfl rfl)
theorem dX3_blanks_31 : decode cX3_blanks 31 = .ok (.putfield 35, 3) := dk_181 0 35 (dk_at dksX3_blanks_1 8 rfl rfl)
theorem dX3_blanks_34 : decode cX3_blanks 34 = .ok (.return_, 1) := dk_177 (dk_at dksX3_blanks_1 11 rfl rfl)
abbrev cX3_byteAt : ByteArray := prog_11_method_5_code
def yX3_byteAt : MethodName := ⟨RX3, "byteAt", "(I)I"⟩
def dkwX3_byteAt_0 : List UInt8 := [27, 42, 180, 0, 22, 162, 0, 12, 42, 180, 0, 9, 27, 51, 167, 0, 4, 2, 172]
abbrev dktX3_byteAt_0 : List UInt8 := dkwX3_byteAt_0 ++ []
theorem dksX3_byteAt_0 : cX3_byteAt.data.toList.drop 0 = dktX3_byteAt_0 := by decide +kernel
theorem dX3_byteAt_0 : decode cX3_byteAt 0 = .ok (.iload_n 1, 1) := dk_27 (dk_at dksX3_byteAt_0 0 rfl rfl)
theorem dX3_byteAt_1 : decode cX3_byteAt 1 = .ok (.aload_n 0, 1) := dk_42 (dk_at dksX3_byteAt_0 1 rfl rfl)
theorem dX3_byteAt_2 : decode cX3_byteAt 2 = .ok (.getfield 22, 3) := dk_180 0 22 (dk_at dksX3_byteAt_0 2 rfl rfl)
theorem dX3_byteAt_5 : decode cX3_byteAt 5 = .ok (.if_icmp .ge 12, 3) := dk_162 0 12 (dk_at dksX3_byteAt_0 5 rfl rfl)
theorem dX3_byteAt_8 : decode cX3_byteAt 8 = .ok (.aload_n 0, 1) := dk_42 (dk_at dksX3_byteAt_0 8 rfl rfl)
theorem dX3_byteAt_9 : decode cX3_byteAt 9 = .ok (.getfield 9, 3) := dk_180 0 9 (dk_at dksX3_byteAt_0 9 rfl rfl)
theorem dX3_byteAt_12 : decode cX3_byteAt 12 = .ok (.iload_n 1, 1) := dk_27 (dk_at dksX3_byteAt_0 12 rfl rfl)
theorem dX3_byteAt_13 : decode cX3_byteAt 13 = .ok (.baload, 1) := dk_51 (dk_at dksX3_byteAt_0 13 rfl rfl)
theorem dX3_byteAt_14 : decode cX3_byteAt 14 = .ok (.goto 4, 3) := dk_167 0 4 (dk_at dksX3_byteAt_0 14 rfl rfl)
theorem dX3_byteAt_17 : decode cX3_byteAt 17 = .ok (.iconst (-1), 1) := dk_2 (dk_at dksX3_byteAt_0 17 rfl rfl)
theorem dX3_byteAt_18 : decode cX3_byteAt 18 = .ok (.ireturn, 1) := dk_172 (dk_at dksX3_byteAt_0 18 rfl rfl)
abbrev cX3_word : ByteArray := prog_11_method_8_code
def yX3_word : MethodName := ⟨RX3, "word", "()Ljava/lang/String;"⟩
def dkwX3_word_3 : List UInt8 := [167, 255, 233, 43, 182, 0, 52, 176]
abbrev dktX3_word_3 : List UInt8 := dkwX3_word_3 ++ []
def dkwX3_word_2 : List UInt8 := [28, 42, 180, 0, 25, 162, 0, 21, 43, 42, 180, 0, 9, 28, 51, 146, 182, 0, 48, 87, 132, 2, 1]
abbrev dktX3_word_2 : List UInt8 := dkwX3_word_2 ++ dktX3_word_3
def dkwX3_word_1 : List UInt8 := [180, 0, 25, 4, 96, 181, 0, 25, 167, 255, 228, 187, 0, 45, 89, 183, 0, 47, 76, 42, 180, 0, 35, 61]
abbrev dktX3_word_1 : List UInt8 := dkwX3_word_1 ++ dktX3_word_2
def dkwX3_word_0 : List UInt8 := [42, 182, 0, 38, 42, 42, 180, 0, 25, 182, 0, 31, 16, 97, 16, 122, 184, 0, 41, 153, 0, 16, 42, 89]
abbrev dktX3_word_0 : List UInt8 := dkwX3_word_0 ++ dktX3_word_1
theorem dksX3_word_0 : cX3_word.data.toList.drop 0 = dktX3_word_0 := by decide +kernel
theorem dksX3_word_1 : cX3_word.data.toList.drop 24 = dktX3_word_1 := dk_seg dksX3_word_0 24 rfl rfl
theorem dksX3_word_2 : cX3_word.data.toList.drop 48 = dktX3_word_2 := dk_seg dksX3_word_1 24 rfl rfl
theorem dksX3_word_3 : cX3_word.data.toList.drop 71 = dktX3_word_3 := dk_seg dksX3_word_2 23 rfl rfl
theorem dX3_word_0 : decode cX3_word 0 = .ok (.aload_n 0, 1) := dk_42 (dk_at dksX3_word_0 0 rfl rfl)
theorem dX3_word_1 : decode cX3_word 1 = .ok (.invokevirtual 38, 3) := dk_182 0 38 (dk_at dksX3_word_0 1 rfl rfl)
theorem dX3_word_4 : decode cX3_word 4 = .ok (.aload_n 0, 1) := dk_42 (dk_at dksX3_word_0 4 rfl rfl)
theorem dX3_word_5 : decode cX3_word 5 = .ok (.aload_n 0, 1) := dk_42 (dk_at dksX3_word_0 5 rfl rfl)
theorem dX3_word_6 : decode cX3_word 6 = .ok (.getfield 25, 3) := dk_180 0 25 (dk_at dksX3_word_0 6 rfl rfl)
theorem dX3_word_9 : decode cX3_word 9 = .ok (.invokevirtual 31, 3) := dk_182 0 31 (dk_at dksX3_word_0 9 rfl rfl)
theorem dX3_word_12 : decode cX3_word 12 = .ok (.bipush 97, 2) := dk_16 97 (dk_at dksX3_word_0 12 rfl rfl)
theorem dX3_word_14 : decode cX3_word 14 = .ok (.bipush 122, 2) := dk_16 122 (dk_at dksX3_word_0 14 rfl rfl)
theorem dX3_word_16 : decode cX3_word 16 = .ok (.invokestatic 41, 3) := dk_184 0 41 (dk_at dksX3_word_0 16 rfl rfl)
theorem dX3_word_19 : decode cX3_word 19 = .ok (.ifCond .eq 16, 3) := dk_153 0 16 (dk_at dksX3_word_0 19 rfl rfl)
theorem dX3_word_22 : decode cX3_word 22 = .ok (.aload_n 0, 1) := dk_42 (dk_at dksX3_word_0 22 rfl rfl)
theorem dX3_word_23 : decode cX3_word 23 = .ok (.dup, 1) := dk_89 (dk_at dksX3_word_0 23 rfl rfl)
theorem dX3_word_24 : decode cX3_word 24 = .ok (.getfield 25, 3) := dk_180 0 25 (dk_at dksX3_word_1 0 rfl rfl)
theorem dX3_word_27 : decode cX3_word 27 = .ok (.iconst 1, 1) := dk_4 (dk_at dksX3_word_1 3 rfl rfl)
theorem dX3_word_28 : decode cX3_word 28 = .ok (.iadd, 1) := dk_96 (dk_at dksX3_word_1 4 rfl rfl)
theorem dX3_word_29 : decode cX3_word 29 = .ok (.putfield 25, 3) := dk_181 0 25 (dk_at dksX3_word_1 5 rfl rfl)
theorem dX3_word_32 : decode cX3_word 32 = .ok (.goto (-28), 3) := dk_167 255 228 (dk_at dksX3_word_1 8 rfl rfl)
theorem dX3_word_35 : decode cX3_word 35 = .ok (.new 45, 3) := dk_187 0 45 (dk_at dksX3_word_1 11 rfl rfl)
theorem dX3_word_38 : decode cX3_word 38 = .ok (.dup, 1) := dk_89 (dk_at dksX3_word_1 14 rfl rfl)
theorem dX3_word_39 : decode cX3_word 39 = .ok (.invokespecial 47, 3) := dk_183 0 47 (dk_at dksX3_word_1 15 rfl rfl)
theorem dX3_word_42 : decode cX3_word 42 = .ok (.astore_n 1, 1) := dk_76 (dk_at dksX3_word_1 18 rfl rfl)
theorem dX3_word_43 : decode cX3_word 43 = .ok (.aload_n 0, 1) := dk_42 (dk_at dksX3_word_1 19 rfl rfl)
theorem dX3_word_44 : decode cX3_word 44 = .ok (.getfield 35, 3) := dk_180 0 35 (dk_at dksX3_word_1 20 rfl rfl)
theorem dX3_word_47 : decode cX3_word 47 = .ok (.istore_n 2, 1) := dk_61 (dk_at dksX3_word_1 23 rfl rfl)
theorem dX3_word_48 : decode cX3_word 48 = .ok (.iload_n 2, 1) := dk_28 (dk_at dksX3_word_2 0 rfl rfl)
theorem dX3_word_49 : decode cX3_word 49 = .ok (.aload_n 0, 1) := dk_42 (dk_at dksX3_word_2 1 rfl rfl)
theorem dX3_word_50 : decode cX3_word 50 = .ok (.getfield 25, 3) := dk_180 0 25 (dk_at dksX3_word_2 2 rfl rfl)
theorem dX3_word_53 : decode cX3_word 53 = .ok (.if_icmp .ge 21, 3) := dk_162 0 21 (dk_at dksX3_word_2 5 rfl rfl)
theorem dX3_word_56 : decode cX3_word 56 = .ok (.aload_n 1, 1) := dk_43 (dk_at dksX3_word_2 8 rfl rfl)
theorem dX3_word_57 : decode cX3_word 57 = .ok (.aload_n 0, 1) := dk_42 (dk_at dksX3_word_2 9 rfl rfl)
theorem dX3_word_58 : decode cX3_word 58 = .ok (.getfield 9, 3) := dk_180 0 9 (dk_at dksX3_word_2 10 rfl rfl)
theorem dX3_word_61 : decode cX3_word 61 = .ok (.iload_n 2, 1) := dk_28 (dk_at dksX3_word_2 13 rfl rfl)
theorem dX3_word_62 : decode cX3_word 62 = .ok (.baload, 1) := dk_51 (dk_at dksX3_word_2 14 rfl rfl)
theorem dX3_word_63 : decode cX3_word 63 = .ok (.i2c, 1) := dk_146 (dk_at dksX3_word_2 15 rfl rfl)
theorem dX3_word_64 : decode cX3_word 64 = .ok (.invokevirtual 48, 3) := dk_182 0 48 (dk_at dksX3_word_2 16 rfl rfl)
theorem dX3_word_67 : decode cX3_word 67 = .ok (.pop, 1) := dk_87 (dk_at dksX3_word_2 19 rfl rfl)
theorem dX3_word_68 : decode cX3_word 68 = .ok (.iinc 2 1, 3) := dk_132 2 1 (dk_at dksX3_word_2 20 rfl rfl)
theorem dX3_word_71 : decode cX3_word 71 = .ok (.goto (-23), 3) := dk_167 255 233 (dk_at dksX3_word_3 0 rfl rfl)
theorem dX3_word_74 : decode cX3_word 74 = .ok (.aload_n 1, 1) := dk_43 (dk_at dksX3_word_3 3 rfl rfl)
theorem dX3_word_75 : decode cX3_word 75 = .ok (.invokevirtual 52, 3) := dk_182 0 52 (dk_at dksX3_word_3 4 rfl rfl)
theorem dX3_word_78 : decode cX3_word 78 = .ok (.areturn, 1) := dk_176 (dk_at dksX3_word_3 7 rfl rfl)
abbrev cX3_wrong : ByteArray := prog_11_method_14_code
def yX3_wrong : MethodName := ⟨RX3, "wrong", "()LVisitingHours$Wrong;"⟩
def dkwX3_wrong_0 : List UInt8 := [187, 0, 73, 89, 183, 0, 75, 176]
abbrev dktX3_wrong_0 : List UInt8 := dkwX3_wrong_0 ++ []
theorem dksX3_wrong_0 : cX3_wrong.data.toList.drop 0 = dktX3_wrong_0 := by decide +kernel
theorem dX3_wrong_0 : decode cX3_wrong 0 = .ok (.new 73, 3) := dk_187 0 73 (dk_at dksX3_wrong_0 0 rfl rfl)
theorem dX3_wrong_3 : decode cX3_wrong 3 = .ok (.dup, 1) := dk_89 (dk_at dksX3_wrong_0 3 rfl rfl)
theorem dX3_wrong_4 : decode cX3_wrong 4 = .ok (.invokespecial 75, 3) := dk_183 0 75 (dk_at dksX3_wrong_0 4 rfl rfl)
theorem dX3_wrong_7 : decode cX3_wrong 7 = .ok (.areturn, 1) := dk_176 (dk_at dksX3_wrong_0 7 rfl rfl)
abbrev cX3_number : ByteArray := prog_11_method_12_code
def yX3_number : MethodName := ⟨RX3, "number", "(II)I"⟩
def dkwX3_number_0 : List UInt8 := [42, 27, 28, 6, 182, 0, 65, 172]
abbrev dktX3_number_0 : List UInt8 := dkwX3_number_0 ++ []
theorem dksX3_number_0 : cX3_number.data.toList.drop 0 = dktX3_number_0 := by decide +kernel
theorem dX3_number_0 : decode cX3_number 0 = .ok (.aload_n 0, 1) := dk_42 (dk_at dksX3_number_0 0 rfl rfl)
theorem dX3_number_1 : decode cX3_number 1 = .ok (.iload_n 1, 1) := dk_27 (dk_at dksX3_number_0 1 rfl rfl)
theorem dX3_number_2 : decode cX3_number 2 = .ok (.iload_n 2, 1) := dk_28 (dk_at dksX3_number_0 2 rfl rfl)
theorem dX3_number_3 : decode cX3_number 3 = .ok (.iconst 3, 1) := dk_6 (dk_at dksX3_number_0 3 rfl rfl)
theorem dX3_number_4 : decode cX3_number 4 = .ok (.invokevirtual 65, 3) := dk_182 0 65 (dk_at dksX3_number_0 4 rfl rfl)
theorem dX3_number_7 : decode cX3_number 7 = .ok (.ireturn, 1) := dk_172 (dk_at dksX3_number_0 7 rfl rfl)
abbrev cX3_figures : ByteArray := prog_11_method_13_code
def yX3_figures : MethodName := ⟨RX3, "figures", "(III)I"⟩
def dkwX3_figures_5 : List UInt8 := [21, 4, 172]
abbrev dktX3_figures_5 : List UInt8 := dkwX3_figures_5 ++ []
def dkwX3_figures_4 : List UInt8 := [180, 0, 35, 100, 29, 163, 0, 13, 21, 4, 27, 28, 184, 0, 41, 154, 0, 8, 42, 182, 0, 69, 191]
abbrev dktX3_figures_4 : List UInt8 := dkwX3_figures_4 ++ dktX3_figures_5
def dkwX3_figures_3 : List UInt8 := [181, 0, 25, 167, 255, 191, 42, 180, 0, 25, 42, 180, 0, 35, 159, 0, 26, 42, 180, 0, 25, 42]
abbrev dktX3_figures_3 : List UInt8 := dkwX3_figures_3 ++ dktX3_figures_4
def dkwX3_figures_2 : List UInt8 := [180, 0, 25, 182, 0, 31, 96, 16, 48, 100, 167, 0, 5, 21, 4, 54, 4, 42, 89, 180, 0, 25, 4, 96]
abbrev dktX3_figures_2 : List UInt8 := dkwX3_figures_2 ++ dktX3_figures_3
def dkwX3_figures_1 : List UInt8 := [153, 0, 53, 42, 180, 0, 25, 42, 180, 0, 35, 100, 29, 162, 0, 23, 16, 10, 21, 4, 104, 42, 42]
abbrev dktX3_figures_1 : List UInt8 := dkwX3_figures_1 ++ dktX3_figures_2
def dkwX3_figures_0 : List UInt8 := [42, 182, 0, 38, 3, 54, 4, 42, 42, 180, 0, 25, 182, 0, 31, 16, 48, 16, 57, 184, 0, 41]
abbrev dktX3_figures_0 : List UInt8 := dkwX3_figures_0 ++ dktX3_figures_1
theorem dksX3_figures_0 : cX3_figures.data.toList.drop 0 = dktX3_figures_0 := by decide +kernel
theorem dksX3_figures_1 : cX3_figures.data.toList.drop 22 = dktX3_figures_1 := dk_seg dksX3_figures_0 22 rfl rfl
theorem dksX3_figures_2 : cX3_figures.data.toList.drop 45 = dktX3_figures_2 := dk_seg dksX3_figures_1 23 rfl rfl
theorem dksX3_figures_3 : cX3_figures.data.toList.drop 69 = dktX3_figures_3 := dk_seg dksX3_figures_2 24 rfl rfl
theorem dksX3_figures_4 : cX3_figures.data.toList.drop 91 = dktX3_figures_4 := dk_seg dksX3_figures_3 22 rfl rfl
theorem dksX3_figures_5 : cX3_figures.data.toList.drop 114 = dktX3_figures_5 := dk_seg dksX3_figures_4 23 rfl rfl
theorem dX3_figures_0 : decode cX3_figures 0 = .ok (.aload_n 0, 1) := dk_42 (dk_at dksX3_figures_0 0 rfl rfl)
theorem dX3_figures_1 : decode cX3_figures 1 = .ok (.invokevirtual 38, 3) := dk_182 0 38 (dk_at dksX3_figures_0 1 rfl rfl)
theorem dX3_figures_4 : decode cX3_figures 4 = .ok (.iconst 0, 1) := dk_3 (dk_at dksX3_figures_0 4 rfl rfl)
theorem dX3_figures_5 : decode cX3_figures 5 = .ok (.istore 4, 2) := dk_54 4 (dk_at dksX3_figures_0 5 rfl rfl)
theorem dX3_figures_7 : decode cX3_figures 7 = .ok (.aload_n 0, 1) := dk_42 (dk_at dksX3_figures_0 7 rfl rfl)
theorem dX3_figures_8 : decode cX3_figures 8 = .ok (.aload_n 0, 1) := dk_42 (dk_at dksX3_figures_0 8 rfl rfl)
theorem dX3_figures_9 : decode cX3_figures 9 = .ok (.getfield 25, 3) := dk_180 0 25 (dk_at dksX3_figures_0 9 rfl rfl)
theorem dX3_figures_12 : decode cX3_figures 12 = .ok (.invokevirtual 31, 3) := dk_182 0 31 (dk_at dksX3_figures_0 12 rfl rfl)
theorem dX3_figures_15 : decode cX3_figures 15 = .ok (.bipush 48, 2) := dk_16 48 (dk_at dksX3_figures_0 15 rfl rfl)
theorem dX3_figures_17 : decode cX3_figures 17 = .ok (.bipush 57, 2) := dk_16 57 (dk_at dksX3_figures_0 17 rfl rfl)
theorem dX3_figures_19 : decode cX3_figures 19 = .ok (.invokestatic 41, 3) := dk_184 0 41 (dk_at dksX3_figures_0 19 rfl rfl)
theorem dX3_figures_22 : decode cX3_figures 22 = .ok (.ifCond .eq 53, 3) := dk_153 0 53 (dk_at dksX3_figures_1 0 rfl rfl)
theorem dX3_figures_25 : decode cX3_figures 25 = .ok (.aload_n 0, 1) := dk_42 (dk_at dksX3_figures_1 3 rfl rfl)
theorem dX3_figures_26 : decode cX3_figures 26 = .ok (.getfield 25, 3) := dk_180 0 25 (dk_at dksX3_figures_1 4 rfl rfl)
theorem dX3_figures_29 : decode cX3_figures 29 = .ok (.aload_n 0, 1) := dk_42 (dk_at dksX3_figures_1 7 rfl rfl)
theorem dX3_figures_30 : decode cX3_figures 30 = .ok (.getfield 35, 3) := dk_180 0 35 (dk_at dksX3_figures_1 8 rfl rfl)
theorem dX3_figures_33 : decode cX3_figures 33 = .ok (.isub, 1) := dk_100 (dk_at dksX3_figures_1 11 rfl rfl)
theorem dX3_figures_34 : decode cX3_figures 34 = .ok (.iload_n 3, 1) := dk_29 (dk_at dksX3_figures_1 12 rfl rfl)
theorem dX3_figures_35 : decode cX3_figures 35 = .ok (.if_icmp .ge 23, 3) := dk_162 0 23 (dk_at dksX3_figures_1 13 rfl rfl)
theorem dX3_figures_38 : decode cX3_figures 38 = .ok (.bipush 10, 2) := dk_16 10 (dk_at dksX3_figures_1 16 rfl rfl)
theorem dX3_figures_40 : decode cX3_figures 40 = .ok (.iload 4, 2) := dk_21 4 (dk_at dksX3_figures_1 18 rfl rfl)
theorem dX3_figures_42 : decode cX3_figures 42 = .ok (.imul, 1) := dk_104 (dk_at dksX3_figures_1 20 rfl rfl)
theorem dX3_figures_43 : decode cX3_figures 43 = .ok (.aload_n 0, 1) := dk_42 (dk_at dksX3_figures_1 21 rfl rfl)
theorem dX3_figures_44 : decode cX3_figures 44 = .ok (.aload_n 0, 1) := dk_42 (dk_at dksX3_figures_1 22 rfl rfl)
theorem dX3_figures_45 : decode cX3_figures 45 = .ok (.getfield 25, 3) := dk_180 0 25 (dk_at dksX3_figures_2 0 rfl rfl)
theorem dX3_figures_48 : decode cX3_figures 48 = .ok (.invokevirtual 31, 3) := dk_182 0 31 (dk_at dksX3_figures_2 3 rfl rfl)
theorem dX3_figures_51 : decode cX3_figures 51 = .ok (.iadd, 1) := dk_96 (dk_at dksX3_figures_2 6 rfl rfl)
theorem dX3_figures_52 : decode cX3_figures 52 = .ok (.bipush 48, 2) := dk_16 48 (dk_at dksX3_figures_2 7 rfl rfl)
theorem dX3_figures_54 : decode cX3_figures 54 = .ok (.isub, 1) := dk_100 (dk_at dksX3_figures_2 9 rfl rfl)
theorem dX3_figures_55 : decode cX3_figures 55 = .ok (.goto 5, 3) := dk_167 0 5 (dk_at dksX3_figures_2 10 rfl rfl)
theorem dX3_figures_58 : decode cX3_figures 58 = .ok (.iload 4, 2) := dk_21 4 (dk_at dksX3_figures_2 13 rfl rfl)
theorem dX3_figures_60 : decode cX3_figures 60 = .ok (.istore 4, 2) := dk_54 4 (dk_at dksX3_figures_2 15 rfl rfl)
theorem dX3_figures_62 : decode cX3_figures 62 = .ok (.aload_n 0, 1) := dk_42 (dk_at dksX3_figures_2 17 rfl rfl)
theorem dX3_figures_63 : decode cX3_figures 63 = .ok (.dup, 1) := dk_89 (dk_at dksX3_figures_2 18 rfl rfl)
theorem dX3_figures_64 : decode cX3_figures 64 = .ok (.getfield 25, 3) := dk_180 0 25 (dk_at dksX3_figures_2 19 rfl rfl)
theorem dX3_figures_67 : decode cX3_figures 67 = .ok (.iconst 1, 1) := dk_4 (dk_at dksX3_figures_2 22 rfl rfl)
theorem dX3_figures_68 : decode cX3_figures 68 = .ok (.iadd, 1) := dk_96 (dk_at dksX3_figures_2 23 rfl rfl)
theorem dX3_figures_69 : decode cX3_figures 69 = .ok (.putfield 25, 3) := dk_181 0 25 (dk_at dksX3_figures_3 0 rfl rfl)
theorem dX3_figures_72 : decode cX3_figures 72 = .ok (.goto (-65), 3) := dk_167 255 191 (dk_at dksX3_figures_3 3 rfl rfl)
theorem dX3_figures_75 : decode cX3_figures 75 = .ok (.aload_n 0, 1) := dk_42 (dk_at dksX3_figures_3 6 rfl rfl)
theorem dX3_figures_76 : decode cX3_figures 76 = .ok (.getfield 25, 3) := dk_180 0 25 (dk_at dksX3_figures_3 7 rfl rfl)
theorem dX3_figures_79 : decode cX3_figures 79 = .ok (.aload_n 0, 1) := dk_42 (dk_at dksX3_figures_3 10 rfl rfl)
theorem dX3_figures_80 : decode cX3_figures 80 = .ok (.getfield 35, 3) := dk_180 0 35 (dk_at dksX3_figures_3 11 rfl rfl)
theorem dX3_figures_83 : decode cX3_figures 83 = .ok (.if_icmp .eq 26, 3) := dk_159 0 26 (dk_at dksX3_figures_3 14 rfl rfl)
theorem dX3_figures_86 : decode cX3_figures 86 = .ok (.aload_n 0, 1) := dk_42 (dk_at dksX3_figures_3 17 rfl rfl)
theorem dX3_figures_87 : decode cX3_figures 87 = .ok (.getfield 25, 3) := dk_180 0 25 (dk_at dksX3_figures_3 18 rfl rfl)
theorem dX3_figures_90 : decode cX3_figures 90 = .ok (.aload_n 0, 1) := dk_42 (dk_at dksX3_figures_3 21 rfl rfl)
theorem dX3_figures_91 : decode cX3_figures 91 = .ok (.getfield 35, 3) := dk_180 0 35 (dk_at dksX3_figures_4 0 rfl rfl)
theorem dX3_figures_94 : decode cX3_figures 94 = .ok (.isub, 1) := dk_100 (dk_at dksX3_figures_4 3 rfl rfl)
theorem dX3_figures_95 : decode cX3_figures 95 = .ok (.iload_n 3, 1) := dk_29 (dk_at dksX3_figures_4 4 rfl rfl)
theorem dX3_figures_96 : decode cX3_figures 96 = .ok (.if_icmp .gt 13, 3) := dk_163 0 13 (dk_at dksX3_figures_4 5 rfl rfl)
theorem dX3_figures_99 : decode cX3_figures 99 = .ok (.iload 4, 2) := dk_21 4 (dk_at dksX3_figures_4 8 rfl rfl)
theorem dX3_figures_101 : decode cX3_figures 101 = .ok (.iload_n 1, 1) := dk_27 (dk_at dksX3_figures_4 10 rfl rfl)
theorem dX3_figures_102 : decode cX3_figures 102 = .ok (.iload_n 2, 1) := dk_28 (dk_at dksX3_figures_4 11 rfl rfl)
theorem dX3_figures_103 : decode cX3_figures 103 = .ok (.invokestatic 41, 3) := dk_184 0 41 (dk_at dksX3_figures_4 12 rfl rfl)
theorem dX3_figures_106 : decode cX3_figures 106 = .ok (.ifCond .ne 8, 3) := dk_154 0 8 (dk_at dksX3_figures_4 15 rfl rfl)
theorem dX3_figures_109 : decode cX3_figures 109 = .ok (.aload_n 0, 1) := dk_42 (dk_at dksX3_figures_4 18 rfl rfl)
theorem dX3_figures_110 : decode cX3_figures 110 = .ok (.invokevirtual 69, 3) := dk_182 0 69 (dk_at dksX3_figures_4 19 rfl rfl)
theorem dX3_figures_113 : decode cX3_figures 113 = .ok (.athrow, 1) := dk_191 (dk_at dksX3_figures_4 22 rfl rfl)
theorem dX3_figures_114 : decode cX3_figures 114 = .ok (.iload 4, 2) := dk_21 4 (dk_at dksX3_figures_5 0 rfl rfl)
theorem dX3_figures_116 : decode cX3_figures 116 = .ok (.ireturn, 1) := dk_172 (dk_at dksX3_figures_5 2 rfl rfl)
abbrev cX3_passes : ByteArray := prog_11_method_9_code
def yX3_passes : MethodName := ⟨RX3, "passes", "(Ljava/lang/String;)Z"⟩
def dkwX3_passes_0 : List UInt8 := [42, 182, 0, 56, 43, 182, 0, 59, 153, 0, 5, 4, 172, 42, 42, 180, 0, 35, 181, 0, 25, 3, 172]
abbrev dktX3_passes_0 : List UInt8 := dkwX3_passes_0 ++ []
theorem dksX3_passes_0 : cX3_passes.data.toList.drop 0 = dktX3_passes_0 := by decide +kernel
theorem dX3_passes_0 : decode cX3_passes 0 = .ok (.aload_n 0, 1) := dk_42 (dk_at dksX3_passes_0 0 rfl rfl)
theorem dX3_passes_1 : decode cX3_passes 1 = .ok (.invokevirtual 56, 3) := dk_182 0 56 (dk_at dksX3_passes_0 1 rfl rfl)
theorem dX3_passes_4 : decode cX3_passes 4 = .ok (.aload_n 1, 1) := dk_43 (dk_at dksX3_passes_0 4 rfl rfl)
theorem dX3_passes_5 : decode cX3_passes 5 = .ok (.invokevirtual 59, 3) := dk_182 0 59 (dk_at dksX3_passes_0 5 rfl rfl)
theorem dX3_passes_8 : decode cX3_passes 8 = .ok (.ifCond .eq 5, 3) := dk_153 0 5 (dk_at dksX3_passes_0 8 rfl rfl)
theorem dX3_passes_11 : decode cX3_passes 11 = .ok (.iconst 1, 1) := dk_4 (dk_at dksX3_passes_0 11 rfl rfl)
theorem dX3_passes_12 : decode cX3_passes 12 = .ok (.ireturn, 1) := dk_172 (dk_at dksX3_passes_0 12 rfl rfl)
theorem dX3_passes_13 : decode cX3_passes 13 = .ok (.aload_n 0, 1) := dk_42 (dk_at dksX3_passes_0 13 rfl rfl)
theorem dX3_passes_14 : decode cX3_passes 14 = .ok (.aload_n 0, 1) := dk_42 (dk_at dksX3_passes_0 14 rfl rfl)
theorem dX3_passes_15 : decode cX3_passes 15 = .ok (.getfield 35, 3) := dk_180 0 35 (dk_at dksX3_passes_0 15 rfl rfl)
theorem dX3_passes_18 : decode cX3_passes 18 = .ok (.putfield 25, 3) := dk_181 0 25 (dk_at dksX3_passes_0 18 rfl rfl)
theorem dX3_passes_21 : decode cX3_passes 21 = .ok (.iconst 0, 1) := dk_3 (dk_at dksX3_passes_0 21 rfl rfl)
theorem dX3_passes_22 : decode cX3_passes 22 = .ok (.ireturn, 1) := dk_172 (dk_at dksX3_passes_0 22 rfl rfl)
abbrev cX3_sign : ByteArray := prog_11_method_10_code
def yX3_sign : MethodName := ⟨RX3, "sign", "(I)Z"⟩
def dkwX3_sign_1 : List UInt8 := [96, 181, 0, 25, 4, 172]
abbrev dktX3_sign_1 : List UInt8 := dkwX3_sign_1 ++ []
def dkwX3_sign_0 : List UInt8 := [42, 182, 0, 38, 42, 42, 180, 0, 25, 182, 0, 31, 27, 159, 0, 5, 3, 172, 42, 89, 180, 0, 25, 4]
abbrev dktX3_sign_0 : List UInt8 := dkwX3_sign_0 ++ dktX3_sign_1
theorem dksX3_sign_0 : cX3_sign.data.toList.drop 0 = dktX3_sign_0 := by decide +kernel
theorem dksX3_sign_1 : cX3_sign.data.toList.drop 24 = dktX3_sign_1 := dk_seg dksX3_sign_0 24 rfl rfl
theorem dX3_sign_0 : decode cX3_sign 0 = .ok (.aload_n 0, 1) := dk_42 (dk_at dksX3_sign_0 0 rfl rfl)
theorem dX3_sign_1 : decode cX3_sign 1 = .ok (.invokevirtual 38, 3) := dk_182 0 38 (dk_at dksX3_sign_0 1 rfl rfl)
theorem dX3_sign_4 : decode cX3_sign 4 = .ok (.aload_n 0, 1) := dk_42 (dk_at dksX3_sign_0 4 rfl rfl)
theorem dX3_sign_5 : decode cX3_sign 5 = .ok (.aload_n 0, 1) := dk_42 (dk_at dksX3_sign_0 5 rfl rfl)
theorem dX3_sign_6 : decode cX3_sign 6 = .ok (.getfield 25, 3) := dk_180 0 25 (dk_at dksX3_sign_0 6 rfl rfl)
theorem dX3_sign_9 : decode cX3_sign 9 = .ok (.invokevirtual 31, 3) := dk_182 0 31 (dk_at dksX3_sign_0 9 rfl rfl)
theorem dX3_sign_12 : decode cX3_sign 12 = .ok (.iload_n 1, 1) := dk_27 (dk_at dksX3_sign_0 12 rfl rfl)
theorem dX3_sign_13 : decode cX3_sign 13 = .ok (.if_icmp .eq 5, 3) := dk_159 0 5 (dk_at dksX3_sign_0 13 rfl rfl)
theorem dX3_sign_16 : decode cX3_sign 16 = .ok (.iconst 0, 1) := dk_3 (dk_at dksX3_sign_0 16 rfl rfl)
theorem dX3_sign_17 : decode cX3_sign 17 = .ok (.ireturn, 1) := dk_172 (dk_at dksX3_sign_0 17 rfl rfl)
theorem dX3_sign_18 : decode cX3_sign 18 = .ok (.aload_n 0, 1) := dk_42 (dk_at dksX3_sign_0 18 rfl rfl)
theorem dX3_sign_19 : decode cX3_sign 19 = .ok (.dup, 1) := dk_89 (dk_at dksX3_sign_0 19 rfl rfl)
theorem dX3_sign_20 : decode cX3_sign 20 = .ok (.getfield 25, 3) := dk_180 0 25 (dk_at dksX3_sign_0 20 rfl rfl)
theorem dX3_sign_23 : decode cX3_sign 23 = .ok (.iconst 1, 1) := dk_4 (dk_at dksX3_sign_0 23 rfl rfl)
theorem dX3_sign_24 : decode cX3_sign 24 = .ok (.iadd, 1) := dk_96 (dk_at dksX3_sign_1 0 rfl rfl)
theorem dX3_sign_25 : decode cX3_sign 25 = .ok (.putfield 25, 3) := dk_181 0 25 (dk_at dksX3_sign_1 1 rfl rfl)
theorem dX3_sign_28 : decode cX3_sign 28 = .ok (.iconst 1, 1) := dk_4 (dk_at dksX3_sign_1 4 rfl rfl)
theorem dX3_sign_29 : decode cX3_sign 29 = .ok (.ireturn, 1) := dk_172 (dk_at dksX3_sign_1 5 rfl rfl)
abbrev cX3_goesDeeper : ByteArray := prog_11_method_15_code
def yX3_goesDeeper : MethodName := ⟨RX3, "goesDeeper", "()V"⟩
def dkwX3_goesDeeper_1 : List UInt8 := [177]
abbrev dktX3_goesDeeper_1 : List UInt8 := dkwX3_goesDeeper_1 ++ []
def dkwX3_goesDeeper_0 : List UInt8 := [42, 180, 0, 28, 16, 6, 160, 0, 8, 42, 182, 0, 69, 191, 42, 89, 180, 0, 28, 4, 96, 181, 0, 28]
abbrev dktX3_goesDeeper_0 : List UInt8 := dkwX3_goesDeeper_0 ++ dktX3_goesDeeper_1
theorem dksX3_goesDeeper_0 : cX3_goesDeeper.data.toList.drop 0 = dktX3_goesDeeper_0 := by decide +kernel
theorem dksX3_goesDeeper_1 : cX3_goesDeeper.data.toList.drop 24 = dktX3_goesDeeper_1 := dk_seg dksX3_goesDeeper_0 24 rfl rfl
theorem dX3_goesDeeper_0 : decode cX3_goesDeeper 0 = .ok (.aload_n 0, 1) := dk_42 (dk_at dksX3_goesDeeper_0 0 rfl rfl)
theorem dX3_goesDeeper_1 : decode cX3_goesDeeper 1 = .ok (.getfield 28, 3) := dk_180 0 28 (dk_at dksX3_goesDeeper_0 1 rfl rfl)
theorem dX3_goesDeeper_4 : decode cX3_goesDeeper 4 = .ok (.bipush 6, 2) := dk_16 6 (dk_at dksX3_goesDeeper_0 4 rfl rfl)
theorem dX3_goesDeeper_6 : decode cX3_goesDeeper 6 = .ok (.if_icmp .ne 8, 3) := dk_160 0 8 (dk_at dksX3_goesDeeper_0 6 rfl rfl)
theorem dX3_goesDeeper_9 : decode cX3_goesDeeper 9 = .ok (.aload_n 0, 1) := dk_42 (dk_at dksX3_goesDeeper_0 9 rfl rfl)
theorem dX3_goesDeeper_10 : decode cX3_goesDeeper 10 = .ok (.invokevirtual 69, 3) := dk_182 0 69 (dk_at dksX3_goesDeeper_0 10 rfl rfl)
theorem dX3_goesDeeper_13 : decode cX3_goesDeeper 13 = .ok (.athrow, 1) := dk_191 (dk_at dksX3_goesDeeper_0 13 rfl rfl)
theorem dX3_goesDeeper_14 : decode cX3_goesDeeper 14 = .ok (.aload_n 0, 1) := dk_42 (dk_at dksX3_goesDeeper_0 14 rfl rfl)
theorem dX3_goesDeeper_15 : decode cX3_goesDeeper 15 = .ok (.dup, 1) := dk_89 (dk_at dksX3_goesDeeper_0 15 rfl rfl)
theorem dX3_goesDeeper_16 : decode cX3_goesDeeper 16 = .ok (.getfield 28, 3) := dk_180 0 28 (dk_at dksX3_goesDeeper_0 16 rfl rfl)
theorem dX3_goesDeeper_19 : decode cX3_goesDeeper 19 = .ok (.iconst 1, 1) := dk_4 (dk_at dksX3_goesDeeper_0 19 rfl rfl)
theorem dX3_goesDeeper_20 : decode cX3_goesDeeper 20 = .ok (.iadd, 1) := dk_96 (dk_at dksX3_goesDeeper_0 20 rfl rfl)
theorem dX3_goesDeeper_21 : decode cX3_goesDeeper 21 = .ok (.putfield 28, 3) := dk_181 0 28 (dk_at dksX3_goesDeeper_0 21 rfl rfl)
theorem dX3_goesDeeper_24 : decode cX3_goesDeeper 24 = .ok (.return_, 1) := dk_177 (dk_at dksX3_goesDeeper_1 0 rfl rfl)
abbrev cX3_comesUp : ByteArray := prog_11_method_16_code
def yX3_comesUp : MethodName := ⟨RX3, "comesUp", "()V"⟩
def dkwX3_comesUp_0 : List UInt8 := [42, 89, 180, 0, 28, 4, 100, 181, 0, 28, 177]
abbrev dktX3_comesUp_0 : List UInt8 := dkwX3_comesUp_0 ++ []
theorem dksX3_comesUp_0 : cX3_comesUp.data.toList.drop 0 = dktX3_comesUp_0 := by decide +kernel
theorem dX3_comesUp_0 : decode cX3_comesUp 0 = .ok (.aload_n 0, 1) := dk_42 (dk_at dksX3_comesUp_0 0 rfl rfl)
theorem dX3_comesUp_1 : decode cX3_comesUp 1 = .ok (.dup, 1) := dk_89 (dk_at dksX3_comesUp_0 1 rfl rfl)
theorem dX3_comesUp_2 : decode cX3_comesUp 2 = .ok (.getfield 28, 3) := dk_180 0 28 (dk_at dksX3_comesUp_0 2 rfl rfl)
theorem dX3_comesUp_5 : decode cX3_comesUp 5 = .ok (.iconst 1, 1) := dk_4 (dk_at dksX3_comesUp_0 5 rfl rfl)
theorem dX3_comesUp_6 : decode cX3_comesUp 6 = .ok (.isub, 1) := dk_100 (dk_at dksX3_comesUp_0 6 rfl rfl)
theorem dX3_comesUp_7 : decode cX3_comesUp 7 = .ok (.putfield 28, 3) := dk_181 0 28 (dk_at dksX3_comesUp_0 7 rfl rfl)
theorem dX3_comesUp_10 : decode cX3_comesUp 10 = .ok (.return_, 1) := dk_177 (dk_at dksX3_comesUp_0 10 rfl rfl)
abbrev cX3_isFigure : ByteArray := prog_11_method_11_code
def yX3_isFigure : MethodName := ⟨RX3, "isFigure", "()Z"⟩
def dkwX3_isFigure_0 : List UInt8 := [42, 182, 0, 38, 42, 42, 180, 0, 25, 182, 0, 31, 16, 48, 16, 57, 184, 0, 41, 172]
abbrev dktX3_isFigure_0 : List UInt8 := dkwX3_isFigure_0 ++ []
theorem dksX3_isFigure_0 : cX3_isFigure.data.toList.drop 0 = dktX3_isFigure_0 := by decide +kernel
theorem dX3_isFigure_0 : decode cX3_isFigure 0 = .ok (.aload_n 0, 1) := dk_42 (dk_at dksX3_isFigure_0 0 rfl rfl)
theorem dX3_isFigure_1 : decode cX3_isFigure 1 = .ok (.invokevirtual 38, 3) := dk_182 0 38 (dk_at dksX3_isFigure_0 1 rfl rfl)
theorem dX3_isFigure_4 : decode cX3_isFigure 4 = .ok (.aload_n 0, 1) := dk_42 (dk_at dksX3_isFigure_0 4 rfl rfl)
theorem dX3_isFigure_5 : decode cX3_isFigure 5 = .ok (.aload_n 0, 1) := dk_42 (dk_at dksX3_isFigure_0 5 rfl rfl)
theorem dX3_isFigure_6 : decode cX3_isFigure 6 = .ok (.getfield 25, 3) := dk_180 0 25 (dk_at dksX3_isFigure_0 6 rfl rfl)
theorem dX3_isFigure_9 : decode cX3_isFigure 9 = .ok (.invokevirtual 31, 3) := dk_182 0 31 (dk_at dksX3_isFigure_0 9 rfl rfl)
theorem dX3_isFigure_12 : decode cX3_isFigure 12 = .ok (.bipush 48, 2) := dk_16 48 (dk_at dksX3_isFigure_0 12 rfl rfl)
theorem dX3_isFigure_14 : decode cX3_isFigure 14 = .ok (.bipush 57, 2) := dk_16 57 (dk_at dksX3_isFigure_0 14 rfl rfl)
theorem dX3_isFigure_16 : decode cX3_isFigure 16 = .ok (.invokestatic 41, 3) := dk_184 0 41 (dk_at dksX3_isFigure_0 16 rfl rfl)
theorem dX3_isFigure_19 : decode cX3_isFigure 19 = .ok (.ireturn, 1) := dk_172 (dk_at dksX3_isFigure_0 19 rfl rfl)
theorem q146 : (Jvm.Cond.initialized "VisitingHours$Reader") ∈ lw_all := lw_g (lw_at lw_m1 3 rfl) rfl
theorem q298 : (Jvm.Cond.instantiable "VisitingHours$Reader" (7 : Nat)) ∈ lw_all := lw_g (lw_at lw_m1 155 rfl) rfl
theorem q300 : (Jvm.Cond.instanceMethod ({ cls := "VisitingHours$Reader", name := "<init>", desc := "()V" } : Jvm.MethodName)) ∈ lw_all := lw_g (lw_at lw_m1 157 rfl) rfl
theorem q301 : (Jvm.Cond.code ({ cls := "VisitingHours$Reader", name := "<init>", desc := "()V" } : Jvm.MethodName) prog_11_method_1_code (1 : Nat) (Option.none : Option Jvm.ClassFile.FieldType)) ∈ lw_all := lw_g (lw_at lw_m1 158 rfl) rfl
theorem q302 : (Jvm.Cond.methodLink "VisitingHours$Reader" (3 : Nat) ({ cls := "java/lang/Object", name := "<init>", desc := "()V" } : Jvm.MethodName)) ∈ lw_all := lw_g (lw_at lw_m1 159 rfl) rfl
theorem q303 : (Jvm.Cond.fieldLink "VisitingHours$Reader" (9 : Nat) "VisitingHours$Reader" "tape" "[B") ∈ lw_all := lw_g (lw_at lw_m1 160 rfl) rfl
theorem q305 : (Jvm.Cond.fieldLink "VisitingHours$Reader" (19 : Nat) "VisitingHours$Reader" "length" "I") ∈ lw_all := lw_g (lw_at lw_m1 162 rfl) rfl
theorem q306 : (Jvm.Cond.fieldLink "VisitingHours$Reader" (22 : Nat) "VisitingHours$Reader" "end" "I") ∈ lw_all := lw_g (lw_at lw_m1 163 rfl) rfl
theorem q308 : (Jvm.Cond.fieldLink "VisitingHours$Reader" (25 : Nat) "VisitingHours$Reader" "at" "I") ∈ lw_all := lw_g (lw_at lw_m1 165 rfl) rfl
theorem q310 : (Jvm.Cond.fieldLink "VisitingHours$Reader" (35 : Nat) "VisitingHours$Reader" "begin" "I") ∈ lw_all := lw_g (lw_at lw_m1 167 rfl) rfl
theorem q312 : (Jvm.Cond.fieldLink "VisitingHours$Reader" (15 : Nat) "VisitingHours$Reader" "fault" "I") ∈ lw_all := lw_g (lw_at lw_m1 169 rfl) rfl
theorem q314 : (Jvm.Cond.fieldLink "VisitingHours$Reader" (28 : Nat) "VisitingHours$Reader" "deep" "I") ∈ lw_all := lw_g (lw_at lw_m1 171 rfl) rfl
theorem q315 : (Jvm.Cond.laysFinal "VisitingHours$Reader" "VisitingHours$Reader" "tape" "[B") ∈ lw_all := lw_g (lw_at lw_m1 172 rfl) rfl
theorem q316 : (Jvm.Cond.soleField "VisitingHours$Reader" "tape") ∈ lw_all := lw_g (lw_at lw_m1 173 rfl) rfl
theorem q317 : (Jvm.Cond.lays "VisitingHours$Reader" "VisitingHours$Reader" "length" "I") ∈ lw_all := lw_g (lw_at lw_m1 174 rfl) rfl
theorem q318 : (Jvm.Cond.soleField "VisitingHours$Reader" "length") ∈ lw_all := lw_g (lw_at lw_m1 175 rfl) rfl
theorem q319 : (Jvm.Cond.lays "VisitingHours$Reader" "VisitingHours$Reader" "end" "I") ∈ lw_all := lw_g (lw_at lw_m1 176 rfl) rfl
theorem q320 : (Jvm.Cond.soleField "VisitingHours$Reader" "end") ∈ lw_all := lw_g (lw_at lw_m1 177 rfl) rfl
theorem q321 : (Jvm.Cond.lays "VisitingHours$Reader" "VisitingHours$Reader" "at" "I") ∈ lw_all := lw_g (lw_at lw_m1 178 rfl) rfl
theorem q322 : (Jvm.Cond.soleField "VisitingHours$Reader" "at") ∈ lw_all := lw_g (lw_at lw_m1 179 rfl) rfl
theorem q323 : (Jvm.Cond.lays "VisitingHours$Reader" "VisitingHours$Reader" "begin" "I") ∈ lw_all := lw_g (lw_at lw_m1 180 rfl) rfl
theorem q324 : (Jvm.Cond.soleField "VisitingHours$Reader" "begin") ∈ lw_all := lw_g (lw_at lw_m1 181 rfl) rfl
theorem q325 : (Jvm.Cond.lays "VisitingHours$Reader" "VisitingHours$Reader" "fault" "I") ∈ lw_all := lw_g (lw_at lw_m1 182 rfl) rfl
theorem q326 : (Jvm.Cond.soleField "VisitingHours$Reader" "fault") ∈ lw_all := lw_g (lw_at lw_m1 183 rfl) rfl
theorem q327 : (Jvm.Cond.lays "VisitingHours$Reader" "VisitingHours$Reader" "deep" "I") ∈ lw_all := lw_g (lw_at lw_m1 184 rfl) rfl
theorem q328 : (Jvm.Cond.soleField "VisitingHours$Reader" "deep") ∈ lw_all := lw_g (lw_at lw_m1 185 rfl) rfl
theorem q329 : (Jvm.Cond.superclass "VisitingHours$Reader" "java/lang/Object") ∈ lw_all := lw_g (lw_at lw_m1 186 rfl) rfl
theorem q487 : (Jvm.Cond.instanceMethod ({ cls := "VisitingHours$Reader", name := "add", desc := "([I)I" } : Jvm.MethodName)) ∈ lw_all := lw_g (lw_at lw_m2 104 rfl) rfl
theorem q488 : (Jvm.Cond.selects "VisitingHours$Reader" ({ cls := "VisitingHours$Reader", name := "add", desc := "([I)I" } : Jvm.MethodName) ({ cls := "VisitingHours$Reader", name := "add", desc := "([I)I" } : Jvm.MethodName)) ∈ lw_all := lw_g (lw_at lw_m2 105 rfl) rfl
theorem q489 : (Jvm.Cond.code ({ cls := "VisitingHours$Reader", name := "add", desc := "([I)I" } : Jvm.MethodName) prog_11_method_2_code (7 : Nat) (Option.some Jvm.ClassFile.FieldType.int)) ∈ lw_all := lw_g (lw_at lw_m2 106 rfl) rfl
theorem q495 : (Jvm.Cond.instanceMethod ({ cls := "VisitingHours$Reader", name := "cut", desc := "(I)Z" } : Jvm.MethodName)) ∈ lw_all := lw_g (lw_at lw_m2 112 rfl) rfl
theorem q496 : (Jvm.Cond.selects "VisitingHours$Reader" ({ cls := "VisitingHours$Reader", name := "cut", desc := "(I)Z" } : Jvm.MethodName) ({ cls := "VisitingHours$Reader", name := "cut", desc := "(I)Z" } : Jvm.MethodName)) ∈ lw_all := lw_g (lw_at lw_m2 113 rfl) rfl
theorem q497 : (Jvm.Cond.code ({ cls := "VisitingHours$Reader", name := "cut", desc := "(I)Z" } : Jvm.MethodName) prog_11_method_3_code (2 : Nat) (Option.some Jvm.ClassFile.FieldType.boolean)) ∈ lw_all := lw_g (lw_at lw_m2 114 rfl) rfl
theorem q815 : (Jvm.Cond.instanceMethod ({ cls := "VisitingHours$Reader", name := "begins", desc := "()V" } : Jvm.MethodName)) ∈ lw_all := lw_g (lw_at lw_m3 192 rfl) rfl
theorem q816 : (Jvm.Cond.selects "VisitingHours$Reader" ({ cls := "VisitingHours$Reader", name := "begins", desc := "()V" } : Jvm.MethodName) ({ cls := "VisitingHours$Reader", name := "begins", desc := "()V" } : Jvm.MethodName)) ∈ lw_all := lw_g (lw_at lw_m3 193 rfl) rfl
theorem q817 : (Jvm.Cond.code ({ cls := "VisitingHours$Reader", name := "begins", desc := "()V" } : Jvm.MethodName) prog_11_method_4_code (1 : Nat) (Option.none : Option Jvm.ClassFile.FieldType)) ∈ lw_all := lw_g (lw_at lw_m3 194 rfl) rfl
theorem q823 : (Jvm.Cond.instanceMethod ({ cls := "VisitingHours$Reader", name := "isOver", desc := "()Z" } : Jvm.MethodName)) ∈ lw_all := lw_g (lw_at lw_m3 200 rfl) rfl
theorem q824 : (Jvm.Cond.selects "VisitingHours$Reader" ({ cls := "VisitingHours$Reader", name := "isOver", desc := "()Z" } : Jvm.MethodName) ({ cls := "VisitingHours$Reader", name := "isOver", desc := "()Z" } : Jvm.MethodName)) ∈ lw_all := lw_g (lw_at lw_m3 201 rfl) rfl
theorem q825 : (Jvm.Cond.code ({ cls := "VisitingHours$Reader", name := "isOver", desc := "()Z" } : Jvm.MethodName) prog_11_method_7_code (1 : Nat) (Option.some Jvm.ClassFile.FieldType.boolean)) ∈ lw_all := lw_g (lw_at lw_m3 202 rfl) rfl
theorem q826 : (Jvm.Cond.methodLink "VisitingHours$Reader" (38 : Nat) ({ cls := "VisitingHours$Reader", name := "blanks", desc := "()V" } : Jvm.MethodName)) ∈ lw_all := lw_g (lw_at lw_m3 203 rfl) rfl
theorem q827 : (Jvm.Cond.instanceMethod ({ cls := "VisitingHours$Reader", name := "blanks", desc := "()V" } : Jvm.MethodName)) ∈ lw_all := lw_g (lw_at lw_m3 204 rfl) rfl
theorem q828 : (Jvm.Cond.selects "VisitingHours$Reader" ({ cls := "VisitingHours$Reader", name := "blanks", desc := "()V" } : Jvm.MethodName) ({ cls := "VisitingHours$Reader", name := "blanks", desc := "()V" } : Jvm.MethodName)) ∈ lw_all := lw_g (lw_at lw_m3 205 rfl) rfl
theorem q829 : (Jvm.Cond.code ({ cls := "VisitingHours$Reader", name := "blanks", desc := "()V" } : Jvm.MethodName) prog_11_method_6_code (1 : Nat) (Option.none : Option Jvm.ClassFile.FieldType)) ∈ lw_all := lw_g (lw_at lw_m3 206 rfl) rfl
theorem q830 : (Jvm.Cond.methodLink "VisitingHours$Reader" (31 : Nat) ({ cls := "VisitingHours$Reader", name := "byteAt", desc := "(I)I" } : Jvm.MethodName)) ∈ lw_all := lw_g (lw_at lw_m3 207 rfl) rfl
theorem q831 : (Jvm.Cond.privateMethod ({ cls := "VisitingHours$Reader", name := "byteAt", desc := "(I)I" } : Jvm.MethodName)) ∈ lw_tbl := lw_at lw_m3 208 rfl
theorem q832 : (Jvm.Cond.instanceMethod ({ cls := "VisitingHours$Reader", name := "byteAt", desc := "(I)I" } : Jvm.MethodName)) ∈ lw_all := lw_g (lw_at lw_m3 209 rfl) rfl
theorem q833 : (Jvm.Cond.code ({ cls := "VisitingHours$Reader", name := "byteAt", desc := "(I)I" } : Jvm.MethodName) prog_11_method_5_code (2 : Nat) (Option.some Jvm.ClassFile.FieldType.int)) ∈ lw_all := lw_g (lw_at lw_m3 210 rfl) rfl
theorem q839 : (Jvm.Cond.instanceMethod ({ cls := "VisitingHours$Reader", name := "word", desc := "()Ljava/lang/String;" } : Jvm.MethodName)) ∈ lw_all := lw_g (lw_at lw_m3 216 rfl) rfl
theorem q840 : (Jvm.Cond.selects "VisitingHours$Reader" ({ cls := "VisitingHours$Reader", name := "word", desc := "()Ljava/lang/String;" } : Jvm.MethodName) ({ cls := "VisitingHours$Reader", name := "word", desc := "()Ljava/lang/String;" } : Jvm.MethodName)) ∈ lw_all := lw_g (lw_at lw_m3 217 rfl) rfl
theorem q841 : (Jvm.Cond.code ({ cls := "VisitingHours$Reader", name := "word", desc := "()Ljava/lang/String;" } : Jvm.MethodName) prog_11_method_8_code (3 : Nat) (Option.some (Jvm.ClassFile.FieldType.object "java/lang/String"))) ∈ lw_all := lw_g (lw_at lw_m3 218 rfl) rfl
theorem q842 : (Jvm.Cond.methodLinkNest "VisitingHours$Reader" (41 : Nat) ({ cls := "VisitingHours", name := "in", desc := "(III)Z" } : Jvm.MethodName) "VisitingHours") ∈ lw_tbl := lw_at lw_m3 219 rfl
theorem q845 : (Jvm.Cond.classLink "VisitingHours$Reader" (45 : Nat) "java/lang/StringBuilder") ∈ lw_all := lw_g (lw_at lw_m3 222 rfl) rfl
theorem q847 : (Jvm.Cond.methodLink "VisitingHours$Reader" (47 : Nat) ({ cls := "java/lang/StringBuilder", name := "<init>", desc := "()V" } : Jvm.MethodName)) ∈ lw_all := lw_g (lw_at lw_m3 224 rfl) rfl
theorem q876 : (Jvm.Cond.methodLink "VisitingHours$Reader" (48 : Nat) ({ cls := "java/lang/StringBuilder", name := "append", desc := "(C)Ljava/lang/StringBuilder;" } : Jvm.MethodName)) ∈ lw_all := lw_g (lw_at lw_m4 13 rfl) rfl
theorem q965 : (Jvm.Cond.methodLink "VisitingHours$Reader" (52 : Nat) ({ cls := "java/lang/StringBuilder", name := "toString", desc := "()Ljava/lang/String;" } : Jvm.MethodName)) ∈ lw_all := lw_g (lw_at lw_m4 102 rfl) rfl
theorem q1174 : (Jvm.Cond.instanceMethod ({ cls := "VisitingHours$Reader", name := "wrong", desc := "()LVisitingHours$Wrong;" } : Jvm.MethodName)) ∈ lw_all := lw_g (lw_at lw_m5 71 rfl) rfl
theorem q1175 : (Jvm.Cond.selects "VisitingHours$Reader" ({ cls := "VisitingHours$Reader", name := "wrong", desc := "()LVisitingHours$Wrong;" } : Jvm.MethodName) ({ cls := "VisitingHours$Reader", name := "wrong", desc := "()LVisitingHours$Wrong;" } : Jvm.MethodName)) ∈ lw_all := lw_g (lw_at lw_m5 72 rfl) rfl
theorem q1176 : (Jvm.Cond.code ({ cls := "VisitingHours$Reader", name := "wrong", desc := "()LVisitingHours$Wrong;" } : Jvm.MethodName) prog_11_method_14_code (1 : Nat) (Option.some (Jvm.ClassFile.FieldType.object "VisitingHours$Wrong"))) ∈ lw_all := lw_g (lw_at lw_m5 73 rfl) rfl
theorem q1177 : (Jvm.Cond.classLink "VisitingHours$Reader" (73 : Nat) "VisitingHours$Wrong") ∈ lw_all := lw_g (lw_at lw_m5 74 rfl) rfl
theorem q1186 : (Jvm.Cond.methodLink "VisitingHours$Reader" (75 : Nat) ({ cls := "VisitingHours$Wrong", name := "<init>", desc := "()V" } : Jvm.MethodName)) ∈ lw_all := lw_g (lw_at lw_m5 83 rfl) rfl
theorem q1292 : (Jvm.Cond.instanceMethod ({ cls := "VisitingHours$Reader", name := "number", desc := "(II)I" } : Jvm.MethodName)) ∈ lw_all := lw_g (lw_at lw_m5 189 rfl) rfl
theorem q1293 : (Jvm.Cond.selects "VisitingHours$Reader" ({ cls := "VisitingHours$Reader", name := "number", desc := "(II)I" } : Jvm.MethodName) ({ cls := "VisitingHours$Reader", name := "number", desc := "(II)I" } : Jvm.MethodName)) ∈ lw_all := lw_g (lw_at lw_m5 190 rfl) rfl
theorem q1294 : (Jvm.Cond.code ({ cls := "VisitingHours$Reader", name := "number", desc := "(II)I" } : Jvm.MethodName) prog_11_method_12_code (3 : Nat) (Option.some Jvm.ClassFile.FieldType.int)) ∈ lw_all := lw_g (lw_at lw_m5 191 rfl) rfl
theorem q1295 : (Jvm.Cond.methodLink "VisitingHours$Reader" (65 : Nat) ({ cls := "VisitingHours$Reader", name := "figures", desc := "(III)I" } : Jvm.MethodName)) ∈ lw_all := lw_g (lw_at lw_m5 192 rfl) rfl
theorem q1296 : (Jvm.Cond.instanceMethod ({ cls := "VisitingHours$Reader", name := "figures", desc := "(III)I" } : Jvm.MethodName)) ∈ lw_all := lw_g (lw_at lw_m5 193 rfl) rfl
theorem q1297 : (Jvm.Cond.selects "VisitingHours$Reader" ({ cls := "VisitingHours$Reader", name := "figures", desc := "(III)I" } : Jvm.MethodName) ({ cls := "VisitingHours$Reader", name := "figures", desc := "(III)I" } : Jvm.MethodName)) ∈ lw_all := lw_g (lw_at lw_m5 194 rfl) rfl
theorem q1298 : (Jvm.Cond.code ({ cls := "VisitingHours$Reader", name := "figures", desc := "(III)I" } : Jvm.MethodName) prog_11_method_13_code (5 : Nat) (Option.some Jvm.ClassFile.FieldType.int)) ∈ lw_all := lw_g (lw_at lw_m5 195 rfl) rfl
theorem q1299 : (Jvm.Cond.methodLink "VisitingHours$Reader" (69 : Nat) ({ cls := "VisitingHours$Reader", name := "wrong", desc := "()LVisitingHours$Wrong;" } : Jvm.MethodName)) ∈ lw_all := lw_g (lw_at lw_m5 196 rfl) rfl
theorem q1319 : (Jvm.Cond.instanceMethod ({ cls := "VisitingHours$Reader", name := "passes", desc := "(Ljava/lang/String;)Z" } : Jvm.MethodName)) ∈ lw_all := lw_g (lw_at lw_m5 216 rfl) rfl
theorem q1320 : (Jvm.Cond.selects "VisitingHours$Reader" ({ cls := "VisitingHours$Reader", name := "passes", desc := "(Ljava/lang/String;)Z" } : Jvm.MethodName) ({ cls := "VisitingHours$Reader", name := "passes", desc := "(Ljava/lang/String;)Z" } : Jvm.MethodName)) ∈ lw_all := lw_g (lw_at lw_m5 217 rfl) rfl
theorem q1321 : (Jvm.Cond.code ({ cls := "VisitingHours$Reader", name := "passes", desc := "(Ljava/lang/String;)Z" } : Jvm.MethodName) prog_11_method_9_code (2 : Nat) (Option.some Jvm.ClassFile.FieldType.boolean)) ∈ lw_all := lw_g (lw_at lw_m5 218 rfl) rfl
theorem q1322 : (Jvm.Cond.methodLink "VisitingHours$Reader" (56 : Nat) ({ cls := "VisitingHours$Reader", name := "word", desc := "()Ljava/lang/String;" } : Jvm.MethodName)) ∈ lw_all := lw_g (lw_at lw_m5 219 rfl) rfl
theorem q1323 : (Jvm.Cond.methodLink "VisitingHours$Reader" (59 : Nat) ({ cls := "java/lang/String", name := "equals", desc := "(Ljava/lang/Object;)Z" } : Jvm.MethodName)) ∈ lw_all := lw_g (lw_at lw_m5 220 rfl) rfl
theorem q1352 : (Jvm.Cond.instanceMethod ({ cls := "VisitingHours$Reader", name := "sign", desc := "(I)Z" } : Jvm.MethodName)) ∈ lw_all := lw_g (lw_at lw_m6 9 rfl) rfl
theorem q1353 : (Jvm.Cond.selects "VisitingHours$Reader" ({ cls := "VisitingHours$Reader", name := "sign", desc := "(I)Z" } : Jvm.MethodName) ({ cls := "VisitingHours$Reader", name := "sign", desc := "(I)Z" } : Jvm.MethodName)) ∈ lw_all := lw_g (lw_at lw_m6 10 rfl) rfl
theorem q1354 : (Jvm.Cond.code ({ cls := "VisitingHours$Reader", name := "sign", desc := "(I)Z" } : Jvm.MethodName) prog_11_method_10_code (2 : Nat) (Option.some Jvm.ClassFile.FieldType.boolean)) ∈ lw_all := lw_g (lw_at lw_m6 11 rfl) rfl
theorem q1461 : (Jvm.Cond.instanceMethod ({ cls := "VisitingHours$Reader", name := "goesDeeper", desc := "()V" } : Jvm.MethodName)) ∈ lw_all := lw_g (lw_at lw_m6 118 rfl) rfl
theorem q1462 : (Jvm.Cond.selects "VisitingHours$Reader" ({ cls := "VisitingHours$Reader", name := "goesDeeper", desc := "()V" } : Jvm.MethodName) ({ cls := "VisitingHours$Reader", name := "goesDeeper", desc := "()V" } : Jvm.MethodName)) ∈ lw_all := lw_g (lw_at lw_m6 119 rfl) rfl
theorem q1463 : (Jvm.Cond.code ({ cls := "VisitingHours$Reader", name := "goesDeeper", desc := "()V" } : Jvm.MethodName) prog_11_method_15_code (1 : Nat) (Option.none : Option Jvm.ClassFile.FieldType)) ∈ lw_all := lw_g (lw_at lw_m6 120 rfl) rfl
theorem q1465 : (Jvm.Cond.instanceMethod ({ cls := "VisitingHours$Reader", name := "comesUp", desc := "()V" } : Jvm.MethodName)) ∈ lw_all := lw_g (lw_at lw_m6 122 rfl) rfl
theorem q1466 : (Jvm.Cond.selects "VisitingHours$Reader" ({ cls := "VisitingHours$Reader", name := "comesUp", desc := "()V" } : Jvm.MethodName) ({ cls := "VisitingHours$Reader", name := "comesUp", desc := "()V" } : Jvm.MethodName)) ∈ lw_all := lw_g (lw_at lw_m6 123 rfl) rfl
theorem q1467 : (Jvm.Cond.code ({ cls := "VisitingHours$Reader", name := "comesUp", desc := "()V" } : Jvm.MethodName) prog_11_method_16_code (1 : Nat) (Option.none : Option Jvm.ClassFile.FieldType)) ∈ lw_all := lw_g (lw_at lw_m6 124 rfl) rfl
theorem q1513 : (Jvm.Cond.instanceMethod ({ cls := "VisitingHours$Reader", name := "isFigure", desc := "()Z" } : Jvm.MethodName)) ∈ lw_all := lw_g (lw_at lw_m6 170 rfl) rfl
theorem q1514 : (Jvm.Cond.selects "VisitingHours$Reader" ({ cls := "VisitingHours$Reader", name := "isFigure", desc := "()Z" } : Jvm.MethodName) ({ cls := "VisitingHours$Reader", name := "isFigure", desc := "()Z" } : Jvm.MethodName)) ∈ lw_all := lw_g (lw_at lw_m6 171 rfl) rfl
theorem q1515 : (Jvm.Cond.code ({ cls := "VisitingHours$Reader", name := "isFigure", desc := "()Z" } : Jvm.MethodName) prog_11_method_11_code (1 : Nat) (Option.some Jvm.ClassFile.FieldType.boolean)) ∈ lw_all := lw_g (lw_at lw_m6 172 rfl) rfl
theorem q1576 : (Jvm.Cond.selects "VisitingHours$Reader" ({ cls := "java/lang/Object", name := "getClass", desc := "()Ljava/lang/Class;" } : Jvm.MethodName) ({ cls := "java/lang/Object", name := "getClass", desc := "()Ljava/lang/Class;" } : Jvm.MethodName)) ∈ lw_all := lw_g (lw_at lw_m6 233 rfl) rfl
theorem q2804 : (Jvm.Cond.castable "VisitingHours$Reader" "java/lang/Object") ∈ lw_tbl := lw_at lw_m12 21 rfl
theorem in_X3 : ∀ w ∈ wsX30, w ∈ lw_all := lw_in wsX30 [315, 317, 319, 321, 323, 325, 327] (by decide +kernel) (by decide +kernel)
/-! VisitingHours$Scene -/
set_option maxRecDepth 100000
def RX4 : String := "VisitingHours$Scene"
def TX4 : u_T := fun k => match k with
  | 0 => ("VisitingHours$Scene", "host", "I", false)
  | 1 => ("VisitingHours$Scene", "guest", "I", false)
  | 2 => ("VisitingHours$Scene", "quarter", "I", false)
  | 3 => ("VisitingHours$Scene", "lonely", "I", false)
  | 4 => ("VisitingHours$Scene", "rank", "I", false)
  | 5 => ("VisitingHours$Scene", "loved", "I", false)
  | 6 => ("VisitingHours$Scene", "week", "I", false)
  | 7 => ("VisitingHours$Scene", "marked", "Z", false)
  | _ => ("VisitingHours$Scene", "expected", "Z", false)
def tyX4 : Nat → FieldType := fun k => match k with
  | 0 => .int
  | 1 => .int
  | 2 => .int
  | 3 => .int
  | 4 => .int
  | 5 => .int
  | 6 => .int
  | 7 => .boolean
  | _ => .boolean
abbrev wsX40 : List Cond := u_ws RX4 TX4 9
theorem nmX4 : ∀ a, a < 9 → ∀ b, b < 9 → a ≠ b → (TX4 a).2.1 ≠ (TX4 b).2.1 := by decide +kernel
theorem tyX4_ok : ∀ k, k < 9 → parseFieldDescriptor (TX4 k).2.2.1 = some (tyX4 k) := by decide +kernel
abbrev cX4_init : ByteArray := prog_13_method_1_code
def yX4_init : MethodName := ⟨RX4, "<init>", "()V"⟩
theorem dX4_init_0 : decode cX4_init 0 = .ok (.aload_n 0, 1) := by decide +kernel
theorem dX4_init_1 : decode cX4_init 1 = .ok (.invokespecial 1, 3) := by decide +kernel
theorem dX4_init_4 : decode cX4_init 4 = .ok (.return_, 1) := by decide +kernel
abbrev cX4_of : ByteArray := prog_13_method_2_code
def yX4_of : MethodName := ⟨RX4, "of", "(LVisitingHours$Fact;)I"⟩
def dkwX4_of_3 : List UInt8 := [172, 42, 180, 0, 31, 172, 42, 180, 0, 34, 172]
abbrev dktX4_of_3 : List UInt8 := dkwX4_of_3 ++ []
def dkwX4_of_2 : List UInt8 := [42, 180, 0, 13, 172, 42, 180, 0, 19, 172, 42, 180, 0, 22, 172, 42, 180, 0, 25, 172, 42, 180, 0, 28]
abbrev dktX4_of_2 : List UInt8 := dkwX4_of_2 ++ dktX4_of_3
def dkwX4_of_1 : List UInt8 := [170, 0, 0, 0, 0, 0, 0, 70, 0, 0, 0, 0, 0, 0, 0, 5, 0, 0, 0, 40, 0, 0, 0, 45, 0, 0, 0, 50, 0, 0, 0, 55, 0, 0, 0, 60, 0, 0, 0, 65]
abbrev dktX4_of_1 : List UInt8 := dkwX4_of_1 ++ dktX4_of_2
def dkwX4_of_0 : List UInt8 := [43, 182, 0, 7]
abbrev dktX4_of_0 : List UInt8 := dkwX4_of_0 ++ dktX4_of_1
theorem dksX4_of_0 : cX4_of.data.toList.drop 0 = dktX4_of_0 := by decide +kernel
theorem dksX4_of_1 : cX4_of.data.toList.drop 4 = dktX4_of_1 := dk_seg dksX4_of_0 4 rfl rfl
theorem dksX4_of_2 : cX4_of.data.toList.drop 44 = dktX4_of_2 := dk_seg dksX4_of_1 40 rfl rfl
theorem dksX4_of_3 : cX4_of.data.toList.drop 68 = dktX4_of_3 := dk_seg dksX4_of_2 24 rfl rfl
theorem dX4_of_0 : decode cX4_of 0 = .ok (.aload_n 1, 1) := dk_43 (dk_at dksX4_of_0 0 rfl rfl)
theorem dX4_of_1 : decode cX4_of 1 = .ok (.invokevirtual 7, 3) := dk_182 0 7 (dk_at dksX4_of_0 1 rfl rfl)
theorem dX4_of_4 : decode cX4_of 4 = .ok (.tableswitch 70 0 5 #[40, 45, 50, 55, 60, 65], 40) := by decide +kernel
theorem dX4_of_44 : decode cX4_of 44 = .ok (.aload_n 0, 1) := dk_42 (dk_at dksX4_of_2 0 rfl rfl)
theorem dX4_of_45 : decode cX4_of 45 = .ok (.getfield 13, 3) := dk_180 0 13 (dk_at dksX4_of_2 1 rfl rfl)
theorem dX4_of_48 : decode cX4_of 48 = .ok (.ireturn, 1) := dk_172 (dk_at dksX4_of_2 4 rfl rfl)
theorem dX4_of_49 : decode cX4_of 49 = .ok (.aload_n 0, 1) := dk_42 (dk_at dksX4_of_2 5 rfl rfl)
theorem dX4_of_50 : decode cX4_of 50 = .ok (.getfield 19, 3) := dk_180 0 19 (dk_at dksX4_of_2 6 rfl rfl)
theorem dX4_of_53 : decode cX4_of 53 = .ok (.ireturn, 1) := dk_172 (dk_at dksX4_of_2 9 rfl rfl)
theorem dX4_of_54 : decode cX4_of 54 = .ok (.aload_n 0, 1) := dk_42 (dk_at dksX4_of_2 10 rfl rfl)
theorem dX4_of_55 : decode cX4_of 55 = .ok (.getfield 22, 3) := dk_180 0 22 (dk_at dksX4_of_2 11 rfl rfl)
theorem dX4_of_58 : decode cX4_of 58 = .ok (.ireturn, 1) := dk_172 (dk_at dksX4_of_2 14 rfl rfl)
theorem dX4_of_59 : decode cX4_of 59 = .ok (.aload_n 0, 1) := dk_42 (dk_at dksX4_of_2 15 rfl rfl)
theorem dX4_of_60 : decode cX4_of 60 = .ok (.getfield 25, 3) := dk_180 0 25 (dk_at dksX4_of_2 16 rfl rfl)
theorem dX4_of_63 : decode cX4_of 63 = .ok (.ireturn, 1) := dk_172 (dk_at dksX4_of_2 19 rfl rfl)
theorem dX4_of_64 : decode cX4_of 64 = .ok (.aload_n 0, 1) := dk_42 (dk_at dksX4_of_2 20 rfl rfl)
theorem dX4_of_65 : decode cX4_of 65 = .ok (.getfield 28, 3) := dk_180 0 28 (dk_at dksX4_of_2 21 rfl rfl)
theorem dX4_of_68 : decode cX4_of 68 = .ok (.ireturn, 1) := dk_172 (dk_at dksX4_of_3 0 rfl rfl)
theorem dX4_of_69 : decode cX4_of 69 = .ok (.aload_n 0, 1) := dk_42 (dk_at dksX4_of_3 1 rfl rfl)
theorem dX4_of_70 : decode cX4_of 70 = .ok (.getfield 31, 3) := dk_180 0 31 (dk_at dksX4_of_3 2 rfl rfl)
theorem dX4_of_73 : decode cX4_of 73 = .ok (.ireturn, 1) := dk_172 (dk_at dksX4_of_3 5 rfl rfl)
theorem dX4_of_74 : decode cX4_of 74 = .ok (.aload_n 0, 1) := dk_42 (dk_at dksX4_of_3 6 rfl rfl)
theorem dX4_of_75 : decode cX4_of 75 = .ok (.getfield 34, 3) := dk_180 0 34 (dk_at dksX4_of_3 7 rfl rfl)
theorem dX4_of_78 : decode cX4_of 78 = .ok (.ireturn, 1) := dk_172 (dk_at dksX4_of_3 10 rfl rfl)
theorem q147 : (Jvm.Cond.initialized "VisitingHours$Scene") ∈ lw_all := lw_g (lw_at lw_m1 4 rfl) rfl
theorem q332 : (Jvm.Cond.instantiable "VisitingHours$Scene" (9 : Nat)) ∈ lw_all := lw_g (lw_at lw_m1 189 rfl) rfl
theorem q334 : (Jvm.Cond.instanceMethod ({ cls := "VisitingHours$Scene", name := "<init>", desc := "()V" } : Jvm.MethodName)) ∈ lw_all := lw_g (lw_at lw_m1 191 rfl) rfl
theorem q335 : (Jvm.Cond.code ({ cls := "VisitingHours$Scene", name := "<init>", desc := "()V" } : Jvm.MethodName) prog_13_method_1_code (1 : Nat) (Option.none : Option Jvm.ClassFile.FieldType)) ∈ lw_all := lw_g (lw_at lw_m1 192 rfl) rfl
theorem q336 : (Jvm.Cond.methodLink "VisitingHours$Scene" (1 : Nat) ({ cls := "java/lang/Object", name := "<init>", desc := "()V" } : Jvm.MethodName)) ∈ lw_all := lw_g (lw_at lw_m1 193 rfl) rfl
theorem q337 : (Jvm.Cond.fieldLink "VisitingHours$Scene" (13 : Nat) "VisitingHours$Scene" "host" "I") ∈ lw_all := lw_g (lw_at lw_m1 194 rfl) rfl
theorem q339 : (Jvm.Cond.fieldLink "VisitingHours$Scene" (19 : Nat) "VisitingHours$Scene" "guest" "I") ∈ lw_all := lw_g (lw_at lw_m1 196 rfl) rfl
theorem q341 : (Jvm.Cond.fieldLink "VisitingHours$Scene" (22 : Nat) "VisitingHours$Scene" "quarter" "I") ∈ lw_all := lw_g (lw_at lw_m1 198 rfl) rfl
theorem q343 : (Jvm.Cond.fieldLink "VisitingHours$Scene" (25 : Nat) "VisitingHours$Scene" "lonely" "I") ∈ lw_all := lw_g (lw_at lw_m1 200 rfl) rfl
theorem q346 : (Jvm.Cond.fieldLink "VisitingHours$Scene" (28 : Nat) "VisitingHours$Scene" "rank" "I") ∈ lw_all := lw_g (lw_at lw_m1 203 rfl) rfl
theorem q348 : (Jvm.Cond.fieldLink "VisitingHours$Scene" (31 : Nat) "VisitingHours$Scene" "loved" "I") ∈ lw_all := lw_g (lw_at lw_m1 205 rfl) rfl
theorem q350 : (Jvm.Cond.fieldLink "VisitingHours$Scene" (34 : Nat) "VisitingHours$Scene" "week" "I") ∈ lw_all := lw_g (lw_at lw_m1 207 rfl) rfl
theorem q357 : (Jvm.Cond.lays "VisitingHours$Scene" "VisitingHours$Scene" "host" "I") ∈ lw_all := lw_g (lw_at lw_m1 214 rfl) rfl
theorem q358 : (Jvm.Cond.soleField "VisitingHours$Scene" "host") ∈ lw_all := lw_g (lw_at lw_m1 215 rfl) rfl
theorem q359 : (Jvm.Cond.lays "VisitingHours$Scene" "VisitingHours$Scene" "guest" "I") ∈ lw_all := lw_g (lw_at lw_m1 216 rfl) rfl
theorem q360 : (Jvm.Cond.soleField "VisitingHours$Scene" "guest") ∈ lw_all := lw_g (lw_at lw_m1 217 rfl) rfl
theorem q361 : (Jvm.Cond.lays "VisitingHours$Scene" "VisitingHours$Scene" "quarter" "I") ∈ lw_all := lw_g (lw_at lw_m1 218 rfl) rfl
theorem q362 : (Jvm.Cond.soleField "VisitingHours$Scene" "quarter") ∈ lw_all := lw_g (lw_at lw_m1 219 rfl) rfl
theorem q363 : (Jvm.Cond.lays "VisitingHours$Scene" "VisitingHours$Scene" "lonely" "I") ∈ lw_all := lw_g (lw_at lw_m1 220 rfl) rfl
theorem q364 : (Jvm.Cond.soleField "VisitingHours$Scene" "lonely") ∈ lw_all := lw_g (lw_at lw_m1 221 rfl) rfl
theorem q365 : (Jvm.Cond.lays "VisitingHours$Scene" "VisitingHours$Scene" "rank" "I") ∈ lw_all := lw_g (lw_at lw_m1 222 rfl) rfl
theorem q366 : (Jvm.Cond.soleField "VisitingHours$Scene" "rank") ∈ lw_all := lw_g (lw_at lw_m1 223 rfl) rfl
theorem q367 : (Jvm.Cond.lays "VisitingHours$Scene" "VisitingHours$Scene" "loved" "I") ∈ lw_all := lw_g (lw_at lw_m1 224 rfl) rfl
theorem q368 : (Jvm.Cond.soleField "VisitingHours$Scene" "loved") ∈ lw_all := lw_g (lw_at lw_m1 225 rfl) rfl
theorem q369 : (Jvm.Cond.lays "VisitingHours$Scene" "VisitingHours$Scene" "week" "I") ∈ lw_all := lw_g (lw_at lw_m1 226 rfl) rfl
theorem q370 : (Jvm.Cond.soleField "VisitingHours$Scene" "week") ∈ lw_all := lw_g (lw_at lw_m1 227 rfl) rfl
theorem q371 : (Jvm.Cond.lays "VisitingHours$Scene" "VisitingHours$Scene" "marked" "Z") ∈ lw_all := lw_g (lw_at lw_m1 228 rfl) rfl
theorem q372 : (Jvm.Cond.soleField "VisitingHours$Scene" "marked") ∈ lw_all := lw_g (lw_at lw_m1 229 rfl) rfl
theorem q373 : (Jvm.Cond.lays "VisitingHours$Scene" "VisitingHours$Scene" "expected" "Z") ∈ lw_all := lw_g (lw_at lw_m1 230 rfl) rfl
theorem q374 : (Jvm.Cond.soleField "VisitingHours$Scene" "expected") ∈ lw_all := lw_g (lw_at lw_m1 231 rfl) rfl
theorem q375 : (Jvm.Cond.superclass "VisitingHours$Scene" "java/lang/Object") ∈ lw_all := lw_g (lw_at lw_m1 232 rfl) rfl
theorem q584 : (Jvm.Cond.instanceMethod ({ cls := "VisitingHours$Scene", name := "of", desc := "(LVisitingHours$Fact;)I" } : Jvm.MethodName)) ∈ lw_all := lw_g (lw_at lw_m2 201 rfl) rfl
theorem q585 : (Jvm.Cond.selects "VisitingHours$Scene" ({ cls := "VisitingHours$Scene", name := "of", desc := "(LVisitingHours$Fact;)I" } : Jvm.MethodName) ({ cls := "VisitingHours$Scene", name := "of", desc := "(LVisitingHours$Fact;)I" } : Jvm.MethodName)) ∈ lw_all := lw_g (lw_at lw_m2 202 rfl) rfl
theorem q586 : (Jvm.Cond.code ({ cls := "VisitingHours$Scene", name := "of", desc := "(LVisitingHours$Fact;)I" } : Jvm.MethodName) prog_13_method_2_code (2 : Nat) (Option.some Jvm.ClassFile.FieldType.int)) ∈ lw_all := lw_g (lw_at lw_m2 203 rfl) rfl
theorem q587 : (Jvm.Cond.methodLink "VisitingHours$Scene" (7 : Nat) ({ cls := "VisitingHours$Fact", name := "ordinal", desc := "()I" } : Jvm.MethodName)) ∈ lw_all := lw_g (lw_at lw_m2 204 rfl) rfl
theorem q1578 : (Jvm.Cond.selects "VisitingHours$Scene" ({ cls := "java/lang/Object", name := "getClass", desc := "()Ljava/lang/Class;" } : Jvm.MethodName) ({ cls := "java/lang/Object", name := "getClass", desc := "()Ljava/lang/Class;" } : Jvm.MethodName)) ∈ lw_all := lw_g (lw_at lw_m6 235 rfl) rfl
theorem q2805 : (Jvm.Cond.castable "VisitingHours$Scene" "java/lang/Object") ∈ lw_tbl := lw_at lw_m12 22 rfl
theorem in_X4 : ∀ w ∈ wsX40, w ∈ lw_all := lw_in wsX40 [357, 359, 361, 363, 365, 367, 369, 371, 373] (by decide +kernel) (by decide +kernel)
/-! VisitingHours$Pairs -/
set_option maxRecDepth 100000
def RX5 : String := "VisitingHours$Pairs"
def TX5 : u_T := fun k => match k with
  | 0 => ("VisitingHours$Pairs", "guestOf", "[I", true)
  | 1 => ("VisitingHours$Pairs", "hostOf", "[I", true)
  | 2 => ("VisitingHours$Pairs", "next", "[I", true)
  | 3 => ("VisitingHours$Pairs", "best", "[I", true)
  | 4 => ("VisitingHours$Pairs", "worst", "[I", true)
  | 5 => ("VisitingHours$Pairs", "ways", "I", false)
  | _ => ("VisitingHours$Pairs", "this$0", "LVisitingHours;", true)
def tyX5 : Nat → FieldType := fun k => match k with
  | 0 => .array .int
  | 1 => .array .int
  | 2 => .array .int
  | 3 => .array .int
  | 4 => .array .int
  | 5 => .int
  | _ => .object "VisitingHours"
abbrev wsX50 : List Cond := u_ws RX5 TX5 7
theorem nmX5 : ∀ a, a < 7 → ∀ b, b < 7 → a ≠ b → (TX5 a).2.1 ≠ (TX5 b).2.1 := by decide +kernel
theorem tyX5_ok : ∀ k, k < 7 → parseFieldDescriptor (TX5 k).2.2.1 = some (tyX5 k) := by decide +kernel
abbrev cX5_init : ByteArray := prog_9_method_1_code
def yX5_init : MethodName := ⟨RX5, "<init>", "(LVisitingHours;)V"⟩
def dkwX5_init_2 : List UInt8 := [181, 0, 28, 177]
abbrev dktX5_init_2 : List UInt8 := dkwX5_init_2 ++ []
def dkwX5_init_1 : List UInt8 := [181, 0, 19, 42, 16, 8, 188, 10, 181, 0, 22, 42, 16, 8, 188, 10, 181, 0, 25, 42, 16, 8, 188, 10]
abbrev dktX5_init_1 : List UInt8 := dkwX5_init_1 ++ dktX5_init_2
def dkwX5_init_0 : List UInt8 := [42, 43, 181, 0, 3, 42, 183, 0, 9, 42, 16, 8, 188, 10, 181, 0, 15, 42, 16, 8, 188, 10]
abbrev dktX5_init_0 : List UInt8 := dkwX5_init_0 ++ dktX5_init_1
theorem dksX5_init_0 : cX5_init.data.toList.drop 0 = dktX5_init_0 := by decide +kernel
theorem dksX5_init_1 : cX5_init.data.toList.drop 22 = dktX5_init_1 := dk_seg dksX5_init_0 22 rfl rfl
theorem dksX5_init_2 : cX5_init.data.toList.drop 46 = dktX5_init_2 := dk_seg dksX5_init_1 24 rfl rfl
theorem dX5_init_0 : decode cX5_init 0 = .ok (.aload_n 0, 1) := dk_42 (dk_at dksX5_init_0 0 rfl rfl)
theorem dX5_init_1 : decode cX5_init 1 = .ok (.aload_n 1, 1) := dk_43 (dk_at dksX5_init_0 1 rfl rfl)
theorem dX5_init_2 : decode cX5_init 2 = .ok (.putfield 3, 3) := dk_181 0 3 (dk_at dksX5_init_0 2 rfl rfl)
theorem dX5_init_5 : decode cX5_init 5 = .ok (.aload_n 0, 1) := dk_42 (dk_at dksX5_init_0 5 rfl rfl)
theorem dX5_init_6 : decode cX5_init 6 = .ok (.invokespecial 9, 3) := dk_183 0 9 (dk_at dksX5_init_0 6 rfl rfl)
theorem dX5_init_9 : decode cX5_init 9 = .ok (.aload_n 0, 1) := dk_42 (dk_at dksX5_init_0 9 rfl rfl)
theorem dX5_init_10 : decode cX5_init 10 = .ok (.bipush 8, 2) := dk_16 8 (dk_at dksX5_init_0 10 rfl rfl)
theorem dX5_init_12 : decode cX5_init 12 = .ok (.newarray .int, 2) := dk_188_10 (dk_at dksX5_init_0 12 rfl rfl)
theorem dX5_init_14 : decode cX5_init 14 = .ok (.putfield 15, 3) := dk_181 0 15 (dk_at dksX5_init_0 14 rfl rfl)
theorem dX5_init_17 : decode cX5_init 17 = .ok (.aload_n 0, 1) := dk_42 (dk_at dksX5_init_0 17 rfl rfl)
theorem dX5_init_18 : decode cX5_init 18 = .ok (.bipush 8, 2) := dk_16 8 (dk_at dksX5_init_0 18 rfl rfl)
theorem dX5_init_20 : decode cX5_init 20 = .ok (.newarray .int, 2) := dk_188_10 (dk_at dksX5_init_0 20 rfl rfl)
theorem dX5_init_22 : decode cX5_init 22 = .ok (.putfield 19, 3) := dk_181 0 19 (dk_at dksX5_init_1 0 rfl rfl)
theorem dX5_init_25 : decode cX5_init 25 = .ok (.aload_n 0, 1) := dk_42 (dk_at dksX5_init_1 3 rfl rfl)
theorem dX5_init_26 : decode cX5_init 26 = .ok (.bipush 8, 2) := dk_16 8 (dk_at dksX5_init_1 4 rfl rfl)
theorem dX5_init_28 : decode cX5_init 28 = .ok (.newarray .int, 2) := dk_188_10 (dk_at dksX5_init_1 6 rfl rfl)
theorem dX5_init_30 : decode cX5_init 30 = .ok (.putfield 22, 3) := dk_181 0 22 (dk_at dksX5_init_1 8 rfl rfl)
theorem dX5_init_33 : decode cX5_init 33 = .ok (.aload_n 0, 1) := dk_42 (dk_at dksX5_init_1 11 rfl rfl)
theorem dX5_init_34 : decode cX5_init 34 = .ok (.bipush 8, 2) := dk_16 8 (dk_at dksX5_init_1 12 rfl rfl)
theorem dX5_init_36 : decode cX5_init 36 = .ok (.newarray .int, 2) := dk_188_10 (dk_at dksX5_init_1 14 rfl rfl)
theorem dX5_init_38 : decode cX5_init 38 = .ok (.putfield 25, 3) := dk_181 0 25 (dk_at dksX5_init_1 16 rfl rfl)
theorem dX5_init_41 : decode cX5_init 41 = .ok (.aload_n 0, 1) := dk_42 (dk_at dksX5_init_1 19 rfl rfl)
theorem dX5_init_42 : decode cX5_init 42 = .ok (.bipush 8, 2) := dk_16 8 (dk_at dksX5_init_1 20 rfl rfl)
theorem dX5_init_44 : decode cX5_init 44 = .ok (.newarray .int, 2) := dk_188_10 (dk_at dksX5_init_1 22 rfl rfl)
theorem dX5_init_46 : decode cX5_init 46 = .ok (.putfield 28, 3) := dk_181 0 28 (dk_at dksX5_init_2 0 rfl rfl)
theorem dX5_init_49 : decode cX5_init 49 = .ok (.return_, 1) := dk_177 (dk_at dksX5_init_2 3 rfl rfl)
abbrev cX5_allWays : ByteArray := prog_9_method_12_code
def yX5_allWays : MethodName := ⟨RX5, "allWays", "()I"⟩
def dkwX5_allWays_2 : List UInt8 := [3, 182, 0, 104, 42, 180, 0, 101, 172]
abbrev dktX5_allWays_2 : List UInt8 := dkwX5_allWays_2 ++ []
def dkwX5_allWays_1 : List UInt8 := [180, 0, 15, 3, 42, 180, 0, 28, 3, 16, 8, 184, 0, 92, 42, 182, 0, 71, 42, 3, 181, 0, 101, 42]
abbrev dktX5_allWays_1 : List UInt8 := dkwX5_allWays_1 ++ dktX5_allWays_2
def dkwX5_allWays_0 : List UInt8 := [42, 182, 0, 88, 180, 0, 15, 3, 42, 180, 0, 25, 3, 16, 8, 184, 0, 92, 42, 182, 0, 98]
abbrev dktX5_allWays_0 : List UInt8 := dkwX5_allWays_0 ++ dktX5_allWays_1
theorem dksX5_allWays_0 : cX5_allWays.data.toList.drop 0 = dktX5_allWays_0 := by decide +kernel
theorem dksX5_allWays_1 : cX5_allWays.data.toList.drop 22 = dktX5_allWays_1 := dk_seg dksX5_allWays_0 22 rfl rfl
theorem dksX5_allWays_2 : cX5_allWays.data.toList.drop 46 = dktX5_allWays_2 := dk_seg dksX5_allWays_1 24 rfl rfl
theorem dX5_allWays_0 : decode cX5_allWays 0 = .ok (.aload_n 0, 1) := dk_42 (dk_at dksX5_allWays_0 0 rfl rfl)
theorem dX5_allWays_1 : decode cX5_allWays 1 = .ok (.invokevirtual 88, 3) := dk_182 0 88 (dk_at dksX5_allWays_0 1 rfl rfl)
theorem dX5_allWays_4 : decode cX5_allWays 4 = .ok (.getfield 15, 3) := dk_180 0 15 (dk_at dksX5_allWays_0 4 rfl rfl)
theorem dX5_allWays_7 : decode cX5_allWays 7 = .ok (.iconst 0, 1) := dk_3 (dk_at dksX5_allWays_0 7 rfl rfl)
theorem dX5_allWays_8 : decode cX5_allWays 8 = .ok (.aload_n 0, 1) := dk_42 (dk_at dksX5_allWays_0 8 rfl rfl)
theorem dX5_allWays_9 : decode cX5_allWays 9 = .ok (.getfield 25, 3) := dk_180 0 25 (dk_at dksX5_allWays_0 9 rfl rfl)
theorem dX5_allWays_12 : decode cX5_allWays 12 = .ok (.iconst 0, 1) := dk_3 (dk_at dksX5_allWays_0 12 rfl rfl)
theorem dX5_allWays_13 : decode cX5_allWays 13 = .ok (.bipush 8, 2) := dk_16 8 (dk_at dksX5_allWays_0 13 rfl rfl)
theorem dX5_allWays_15 : decode cX5_allWays 15 = .ok (.invokestatic 92, 3) := dk_184 0 92 (dk_at dksX5_allWays_0 15 rfl rfl)
theorem dX5_allWays_18 : decode cX5_allWays 18 = .ok (.aload_n 0, 1) := dk_42 (dk_at dksX5_allWays_0 18 rfl rfl)
theorem dX5_allWays_19 : decode cX5_allWays 19 = .ok (.invokevirtual 98, 3) := dk_182 0 98 (dk_at dksX5_allWays_0 19 rfl rfl)
theorem dX5_allWays_22 : decode cX5_allWays 22 = .ok (.getfield 15, 3) := dk_180 0 15 (dk_at dksX5_allWays_1 0 rfl rfl)
theorem dX5_allWays_25 : decode cX5_allWays 25 = .ok (.iconst 0, 1) := dk_3 (dk_at dksX5_allWays_1 3 rfl rfl)
theorem dX5_allWays_26 : decode cX5_allWays 26 = .ok (.aload_n 0, 1) := dk_42 (dk_at dksX5_allWays_1 4 rfl rfl)
theorem dX5_allWays_27 : decode cX5_allWays 27 = .ok (.getfield 28, 3) := dk_180 0 28 (dk_at dksX5_allWays_1 5 rfl rfl)
theorem dX5_allWays_30 : decode cX5_allWays 30 = .ok (.iconst 0, 1) := dk_3 (dk_at dksX5_allWays_1 8 rfl rfl)
theorem dX5_allWays_31 : decode cX5_allWays 31 = .ok (.bipush 8, 2) := dk_16 8 (dk_at dksX5_allWays_1 9 rfl rfl)
theorem dX5_allWays_33 : decode cX5_allWays 33 = .ok (.invokestatic 92, 3) := dk_184 0 92 (dk_at dksX5_allWays_1 11 rfl rfl)
theorem dX5_allWays_36 : decode cX5_allWays 36 = .ok (.aload_n 0, 1) := dk_42 (dk_at dksX5_allWays_1 14 rfl rfl)
theorem dX5_allWays_37 : decode cX5_allWays 37 = .ok (.invokevirtual 71, 3) := dk_182 0 71 (dk_at dksX5_allWays_1 15 rfl rfl)
theorem dX5_allWays_40 : decode cX5_allWays 40 = .ok (.aload_n 0, 1) := dk_42 (dk_at dksX5_allWays_1 18 rfl rfl)
theorem dX5_allWays_41 : decode cX5_allWays 41 = .ok (.iconst 0, 1) := dk_3 (dk_at dksX5_allWays_1 19 rfl rfl)
theorem dX5_allWays_42 : decode cX5_allWays 42 = .ok (.putfield 101, 3) := dk_181 0 101 (dk_at dksX5_allWays_1 20 rfl rfl)
theorem dX5_allWays_45 : decode cX5_allWays 45 = .ok (.aload_n 0, 1) := dk_42 (dk_at dksX5_allWays_1 23 rfl rfl)
theorem dX5_allWays_46 : decode cX5_allWays 46 = .ok (.iconst 0, 1) := dk_3 (dk_at dksX5_allWays_2 0 rfl rfl)
theorem dX5_allWays_47 : decode cX5_allWays 47 = .ok (.invokevirtual 104, 3) := dk_182 0 104 (dk_at dksX5_allWays_2 1 rfl rfl)
theorem dX5_allWays_50 : decode cX5_allWays 50 = .ok (.aload_n 0, 1) := dk_42 (dk_at dksX5_allWays_2 4 rfl rfl)
theorem dX5_allWays_51 : decode cX5_allWays 51 = .ok (.getfield 101, 3) := dk_180 0 101 (dk_at dksX5_allWays_2 5 rfl rfl)
theorem dX5_allWays_54 : decode cX5_allWays 54 = .ok (.ireturn, 1) := dk_172 (dk_at dksX5_allWays_2 8 rfl rfl)
abbrev cX5_byHosts : ByteArray := prog_9_method_7_code
def yX5_byHosts : MethodName := ⟨RX5, "byHosts", "()LVisitingHours$Pairs;"⟩
def dkwX5_byHosts_2 : List UInt8 := [182, 0, 74, 132, 2, 1, 167, 255, 224, 132, 1, 1, 167, 255, 210, 42, 176]
abbrev dktX5_byHosts_2 : List UInt8 := dkwX5_byHosts_2 ++ []
def dkwX5_byHosts_1 : List UInt8 := [180, 0, 3, 180, 0, 31, 180, 0, 65, 162, 0, 24, 42, 180, 0, 15, 28, 46, 2, 160, 0, 8, 42, 28]
abbrev dktX5_byHosts_1 : List UInt8 := dkwX5_byHosts_1 ++ dktX5_byHosts_2
def dkwX5_byHosts_0 : List UInt8 := [42, 182, 0, 71, 42, 180, 0, 22, 3, 184, 0, 48, 3, 60, 27, 16, 64, 162, 0, 46, 3, 61, 28, 42]
abbrev dktX5_byHosts_0 : List UInt8 := dkwX5_byHosts_0 ++ dktX5_byHosts_1
theorem dksX5_byHosts_0 : cX5_byHosts.data.toList.drop 0 = dktX5_byHosts_0 := by decide +kernel
theorem dksX5_byHosts_1 : cX5_byHosts.data.toList.drop 24 = dktX5_byHosts_1 := dk_seg dksX5_byHosts_0 24 rfl rfl
theorem dksX5_byHosts_2 : cX5_byHosts.data.toList.drop 48 = dktX5_byHosts_2 := dk_seg dksX5_byHosts_1 24 rfl rfl
theorem dX5_byHosts_0 : decode cX5_byHosts 0 = .ok (.aload_n 0, 1) := dk_42 (dk_at dksX5_byHosts_0 0 rfl rfl)
theorem dX5_byHosts_1 : decode cX5_byHosts 1 = .ok (.invokevirtual 71, 3) := dk_182 0 71 (dk_at dksX5_byHosts_0 1 rfl rfl)
theorem dX5_byHosts_4 : decode cX5_byHosts 4 = .ok (.aload_n 0, 1) := dk_42 (dk_at dksX5_byHosts_0 4 rfl rfl)
theorem dX5_byHosts_5 : decode cX5_byHosts 5 = .ok (.getfield 22, 3) := dk_180 0 22 (dk_at dksX5_byHosts_0 5 rfl rfl)
theorem dX5_byHosts_8 : decode cX5_byHosts 8 = .ok (.iconst 0, 1) := dk_3 (dk_at dksX5_byHosts_0 8 rfl rfl)
theorem dX5_byHosts_9 : decode cX5_byHosts 9 = .ok (.invokestatic 48, 3) := dk_184 0 48 (dk_at dksX5_byHosts_0 9 rfl rfl)
theorem dX5_byHosts_12 : decode cX5_byHosts 12 = .ok (.iconst 0, 1) := dk_3 (dk_at dksX5_byHosts_0 12 rfl rfl)
theorem dX5_byHosts_13 : decode cX5_byHosts 13 = .ok (.istore_n 1, 1) := dk_60 (dk_at dksX5_byHosts_0 13 rfl rfl)
theorem dX5_byHosts_14 : decode cX5_byHosts 14 = .ok (.iload_n 1, 1) := dk_27 (dk_at dksX5_byHosts_0 14 rfl rfl)
theorem dX5_byHosts_15 : decode cX5_byHosts 15 = .ok (.bipush 64, 2) := dk_16 64 (dk_at dksX5_byHosts_0 15 rfl rfl)
theorem dX5_byHosts_17 : decode cX5_byHosts 17 = .ok (.if_icmp .ge 46, 3) := dk_162 0 46 (dk_at dksX5_byHosts_0 17 rfl rfl)
theorem dX5_byHosts_20 : decode cX5_byHosts 20 = .ok (.iconst 0, 1) := dk_3 (dk_at dksX5_byHosts_0 20 rfl rfl)
theorem dX5_byHosts_21 : decode cX5_byHosts 21 = .ok (.istore_n 2, 1) := dk_61 (dk_at dksX5_byHosts_0 21 rfl rfl)
theorem dX5_byHosts_22 : decode cX5_byHosts 22 = .ok (.iload_n 2, 1) := dk_28 (dk_at dksX5_byHosts_0 22 rfl rfl)
theorem dX5_byHosts_23 : decode cX5_byHosts 23 = .ok (.aload_n 0, 1) := dk_42 (dk_at dksX5_byHosts_0 23 rfl rfl)
theorem dX5_byHosts_24 : decode cX5_byHosts 24 = .ok (.getfield 3, 3) := dk_180 0 3 (dk_at dksX5_byHosts_1 0 rfl rfl)
theorem dX5_byHosts_27 : decode cX5_byHosts 27 = .ok (.getfield 31, 3) := dk_180 0 31 (dk_at dksX5_byHosts_1 3 rfl rfl)
theorem dX5_byHosts_30 : decode cX5_byHosts 30 = .ok (.getfield 65, 3) := dk_180 0 65 (dk_at dksX5_byHosts_1 6 rfl rfl)
theorem dX5_byHosts_33 : decode cX5_byHosts 33 = .ok (.if_icmp .ge 24, 3) := dk_162 0 24 (dk_at dksX5_byHosts_1 9 rfl rfl)
theorem dX5_byHosts_36 : decode cX5_byHosts 36 = .ok (.aload_n 0, 1) := dk_42 (dk_at dksX5_byHosts_1 12 rfl rfl)
theorem dX5_byHosts_37 : decode cX5_byHosts 37 = .ok (.getfield 15, 3) := dk_180 0 15 (dk_at dksX5_byHosts_1 13 rfl rfl)
theorem dX5_byHosts_40 : decode cX5_byHosts 40 = .ok (.iload_n 2, 1) := dk_28 (dk_at dksX5_byHosts_1 16 rfl rfl)
theorem dX5_byHosts_41 : decode cX5_byHosts 41 = .ok (.iaload, 1) := dk_46 (dk_at dksX5_byHosts_1 17 rfl rfl)
theorem dX5_byHosts_42 : decode cX5_byHosts 42 = .ok (.iconst (-1), 1) := dk_2 (dk_at dksX5_byHosts_1 18 rfl rfl)
theorem dX5_byHosts_43 : decode cX5_byHosts 43 = .ok (.if_icmp .ne 8, 3) := dk_160 0 8 (dk_at dksX5_byHosts_1 19 rfl rfl)
theorem dX5_byHosts_46 : decode cX5_byHosts 46 = .ok (.aload_n 0, 1) := dk_42 (dk_at dksX5_byHosts_1 22 rfl rfl)
theorem dX5_byHosts_47 : decode cX5_byHosts 47 = .ok (.iload_n 2, 1) := dk_28 (dk_at dksX5_byHosts_1 23 rfl rfl)
theorem dX5_byHosts_48 : decode cX5_byHosts 48 = .ok (.invokevirtual 74, 3) := dk_182 0 74 (dk_at dksX5_byHosts_2 0 rfl rfl)
theorem dX5_byHosts_51 : decode cX5_byHosts 51 = .ok (.iinc 2 1, 3) := dk_132 2 1 (dk_at dksX5_byHosts_2 3 rfl rfl)
theorem dX5_byHosts_54 : decode cX5_byHosts 54 = .ok (.goto (-32), 3) := dk_167 255 224 (dk_at dksX5_byHosts_2 6 rfl rfl)
theorem dX5_byHosts_57 : decode cX5_byHosts 57 = .ok (.iinc 1 1, 3) := dk_132 1 1 (dk_at dksX5_byHosts_2 9 rfl rfl)
theorem dX5_byHosts_60 : decode cX5_byHosts 60 = .ok (.goto (-46), 3) := dk_167 255 210 (dk_at dksX5_byHosts_2 12 rfl rfl)
theorem dX5_byHosts_63 : decode cX5_byHosts 63 = .ok (.aload_n 0, 1) := dk_42 (dk_at dksX5_byHosts_2 15 rfl rfl)
theorem dX5_byHosts_64 : decode cX5_byHosts 64 = .ok (.areturn, 1) := dk_176 (dk_at dksX5_byHosts_2 16 rfl rfl)
abbrev cX5_clears : ByteArray := prog_9_method_4_code
def yX5_clears : MethodName := ⟨RX5, "clears", "()V"⟩
def dkwX5_clears_0 : List UInt8 := [42, 180, 0, 15, 2, 184, 0, 48, 42, 180, 0, 19, 2, 184, 0, 48, 177]
abbrev dktX5_clears_0 : List UInt8 := dkwX5_clears_0 ++ []
theorem dksX5_clears_0 : cX5_clears.data.toList.drop 0 = dktX5_clears_0 := by decide +kernel
theorem dX5_clears_0 : decode cX5_clears 0 = .ok (.aload_n 0, 1) := dk_42 (dk_at dksX5_clears_0 0 rfl rfl)
theorem dX5_clears_1 : decode cX5_clears 1 = .ok (.getfield 15, 3) := dk_180 0 15 (dk_at dksX5_clears_0 1 rfl rfl)
theorem dX5_clears_4 : decode cX5_clears 4 = .ok (.iconst (-1), 1) := dk_2 (dk_at dksX5_clears_0 4 rfl rfl)
theorem dX5_clears_5 : decode cX5_clears 5 = .ok (.invokestatic 48, 3) := dk_184 0 48 (dk_at dksX5_clears_0 5 rfl rfl)
theorem dX5_clears_8 : decode cX5_clears 8 = .ok (.aload_n 0, 1) := dk_42 (dk_at dksX5_clears_0 8 rfl rfl)
theorem dX5_clears_9 : decode cX5_clears 9 = .ok (.getfield 19, 3) := dk_180 0 19 (dk_at dksX5_clears_0 9 rfl rfl)
theorem dX5_clears_12 : decode cX5_clears 12 = .ok (.iconst (-1), 1) := dk_2 (dk_at dksX5_clears_0 12 rfl rfl)
theorem dX5_clears_13 : decode cX5_clears 13 = .ok (.invokestatic 48, 3) := dk_184 0 48 (dk_at dksX5_clears_0 13 rfl rfl)
theorem dX5_clears_16 : decode cX5_clears 16 = .ok (.return_, 1) := dk_177 (dk_at dksX5_clears_0 16 rfl rfl)
abbrev cX5_hostAsks : ByteArray := prog_9_method_8_code
def yX5_hostAsks : MethodName := ⟨RX5, "hostAsks", "(I)V"⟩
def dkwX5_hostAsks_3 : List UInt8 := [28, 79, 177]
abbrev dktX5_hostAsks_3 : List UInt8 := dkwX5_hostAsks_3 ++ []
def dkwX5_hostAsks_2 : List UInt8 := [29, 2, 159, 0, 10, 42, 180, 0, 15, 29, 2, 79, 42, 180, 0, 19, 28, 27, 79, 42, 180, 0, 15, 27]
abbrev dktX5_hostAsks_2 : List UInt8 := dkwX5_hostAsks_2 ++ dktX5_hostAsks_3
def dkwX5_hostAsks_1 : List UInt8 := [46, 4, 28, 120, 128, 79, 42, 180, 0, 19, 28, 46, 62, 42, 28, 27, 29, 182, 0, 68, 154, 0, 4, 177]
abbrev dktX5_hostAsks_1 : List UInt8 := dkwX5_hostAsks_1 ++ dktX5_hostAsks_2
def dkwX5_hostAsks_0 : List UInt8 := [42, 27, 42, 180, 0, 22, 27, 46, 182, 0, 78, 61, 28, 2, 160, 0, 4, 177, 42, 180, 0, 22, 27, 92]
abbrev dktX5_hostAsks_0 : List UInt8 := dkwX5_hostAsks_0 ++ dktX5_hostAsks_1
theorem dksX5_hostAsks_0 : cX5_hostAsks.data.toList.drop 0 = dktX5_hostAsks_0 := by decide +kernel
theorem dksX5_hostAsks_1 : cX5_hostAsks.data.toList.drop 24 = dktX5_hostAsks_1 := dk_seg dksX5_hostAsks_0 24 rfl rfl
theorem dksX5_hostAsks_2 : cX5_hostAsks.data.toList.drop 48 = dktX5_hostAsks_2 := dk_seg dksX5_hostAsks_1 24 rfl rfl
theorem dksX5_hostAsks_3 : cX5_hostAsks.data.toList.drop 72 = dktX5_hostAsks_3 := dk_seg dksX5_hostAsks_2 24 rfl rfl
theorem dX5_hostAsks_0 : decode cX5_hostAsks 0 = .ok (.aload_n 0, 1) := dk_42 (dk_at dksX5_hostAsks_0 0 rfl rfl)
theorem dX5_hostAsks_1 : decode cX5_hostAsks 1 = .ok (.iload_n 1, 1) := dk_27 (dk_at dksX5_hostAsks_0 1 rfl rfl)
theorem dX5_hostAsks_2 : decode cX5_hostAsks 2 = .ok (.aload_n 0, 1) := dk_42 (dk_at dksX5_hostAsks_0 2 rfl rfl)
theorem dX5_hostAsks_3 : decode cX5_hostAsks 3 = .ok (.getfield 22, 3) := dk_180 0 22 (dk_at dksX5_hostAsks_0 3 rfl rfl)
theorem dX5_hostAsks_6 : decode cX5_hostAsks 6 = .ok (.iload_n 1, 1) := dk_27 (dk_at dksX5_hostAsks_0 6 rfl rfl)
theorem dX5_hostAsks_7 : decode cX5_hostAsks 7 = .ok (.iaload, 1) := dk_46 (dk_at dksX5_hostAsks_0 7 rfl rfl)
theorem dX5_hostAsks_8 : decode cX5_hostAsks 8 = .ok (.invokevirtual 78, 3) := dk_182 0 78 (dk_at dksX5_hostAsks_0 8 rfl rfl)
theorem dX5_hostAsks_11 : decode cX5_hostAsks 11 = .ok (.istore_n 2, 1) := dk_61 (dk_at dksX5_hostAsks_0 11 rfl rfl)
theorem dX5_hostAsks_12 : decode cX5_hostAsks 12 = .ok (.iload_n 2, 1) := dk_28 (dk_at dksX5_hostAsks_0 12 rfl rfl)
theorem dX5_hostAsks_13 : decode cX5_hostAsks 13 = .ok (.iconst (-1), 1) := dk_2 (dk_at dksX5_hostAsks_0 13 rfl rfl)
theorem dX5_hostAsks_14 : decode cX5_hostAsks 14 = .ok (.if_icmp .ne 4, 3) := dk_160 0 4 (dk_at dksX5_hostAsks_0 14 rfl rfl)
theorem dX5_hostAsks_17 : decode cX5_hostAsks 17 = .ok (.return_, 1) := dk_177 (dk_at dksX5_hostAsks_0 17 rfl rfl)
theorem dX5_hostAsks_18 : decode cX5_hostAsks 18 = .ok (.aload_n 0, 1) := dk_42 (dk_at dksX5_hostAsks_0 18 rfl rfl)
theorem dX5_hostAsks_19 : decode cX5_hostAsks 19 = .ok (.getfield 22, 3) := dk_180 0 22 (dk_at dksX5_hostAsks_0 19 rfl rfl)
theorem dX5_hostAsks_22 : decode cX5_hostAsks 22 = .ok (.iload_n 1, 1) := dk_27 (dk_at dksX5_hostAsks_0 22 rfl rfl)
theorem dX5_hostAsks_23 : decode cX5_hostAsks 23 = .ok (.dup2, 1) := dk_92 (dk_at dksX5_hostAsks_0 23 rfl rfl)
theorem dX5_hostAsks_24 : decode cX5_hostAsks 24 = .ok (.iaload, 1) := dk_46 (dk_at dksX5_hostAsks_1 0 rfl rfl)
theorem dX5_hostAsks_25 : decode cX5_hostAsks 25 = .ok (.iconst 1, 1) := dk_4 (dk_at dksX5_hostAsks_1 1 rfl rfl)
theorem dX5_hostAsks_26 : decode cX5_hostAsks 26 = .ok (.iload_n 2, 1) := dk_28 (dk_at dksX5_hostAsks_1 2 rfl rfl)
theorem dX5_hostAsks_27 : decode cX5_hostAsks 27 = .ok (.ishl, 1) := dk_120 (dk_at dksX5_hostAsks_1 3 rfl rfl)
theorem dX5_hostAsks_28 : decode cX5_hostAsks 28 = .ok (.ior, 1) := dk_128 (dk_at dksX5_hostAsks_1 4 rfl rfl)
theorem dX5_hostAsks_29 : decode cX5_hostAsks 29 = .ok (.iastore, 1) := dk_79 (dk_at dksX5_hostAsks_1 5 rfl rfl)
theorem dX5_hostAsks_30 : decode cX5_hostAsks 30 = .ok (.aload_n 0, 1) := dk_42 (dk_at dksX5_hostAsks_1 6 rfl rfl)
theorem dX5_hostAsks_31 : decode cX5_hostAsks 31 = .ok (.getfield 19, 3) := dk_180 0 19 (dk_at dksX5_hostAsks_1 7 rfl rfl)
theorem dX5_hostAsks_34 : decode cX5_hostAsks 34 = .ok (.iload_n 2, 1) := dk_28 (dk_at dksX5_hostAsks_1 10 rfl rfl)
theorem dX5_hostAsks_35 : decode cX5_hostAsks 35 = .ok (.iaload, 1) := dk_46 (dk_at dksX5_hostAsks_1 11 rfl rfl)
theorem dX5_hostAsks_36 : decode cX5_hostAsks 36 = .ok (.istore_n 3, 1) := dk_62 (dk_at dksX5_hostAsks_1 12 rfl rfl)
theorem dX5_hostAsks_37 : decode cX5_hostAsks 37 = .ok (.aload_n 0, 1) := dk_42 (dk_at dksX5_hostAsks_1 13 rfl rfl)
theorem dX5_hostAsks_38 : decode cX5_hostAsks 38 = .ok (.iload_n 2, 1) := dk_28 (dk_at dksX5_hostAsks_1 14 rfl rfl)
theorem dX5_hostAsks_39 : decode cX5_hostAsks 39 = .ok (.iload_n 1, 1) := dk_27 (dk_at dksX5_hostAsks_1 15 rfl rfl)
theorem dX5_hostAsks_40 : decode cX5_hostAsks 40 = .ok (.iload_n 3, 1) := dk_29 (dk_at dksX5_hostAsks_1 16 rfl rfl)
theorem dX5_hostAsks_41 : decode cX5_hostAsks 41 = .ok (.invokevirtual 68, 3) := dk_182 0 68 (dk_at dksX5_hostAsks_1 17 rfl rfl)
theorem dX5_hostAsks_44 : decode cX5_hostAsks 44 = .ok (.ifCond .ne 4, 3) := dk_154 0 4 (dk_at dksX5_hostAsks_1 20 rfl rfl)
theorem dX5_hostAsks_47 : decode cX5_hostAsks 47 = .ok (.return_, 1) := dk_177 (dk_at dksX5_hostAsks_1 23 rfl rfl)
theorem dX5_hostAsks_48 : decode cX5_hostAsks 48 = .ok (.iload_n 3, 1) := dk_29 (dk_at dksX5_hostAsks_2 0 rfl rfl)
theorem dX5_hostAsks_49 : decode cX5_hostAsks 49 = .ok (.iconst (-1), 1) := dk_2 (dk_at dksX5_hostAsks_2 1 rfl rfl)
theorem dX5_hostAsks_50 : decode cX5_hostAsks 50 = .ok (.if_icmp .eq 10, 3) := dk_159 0 10 (dk_at dksX5_hostAsks_2 2 rfl rfl)
theorem dX5_hostAsks_53 : decode cX5_hostAsks 53 = .ok (.aload_n 0, 1) := dk_42 (dk_at dksX5_hostAsks_2 5 rfl rfl)
theorem dX5_hostAsks_54 : decode cX5_hostAsks 54 = .ok (.getfield 15, 3) := dk_180 0 15 (dk_at dksX5_hostAsks_2 6 rfl rfl)
theorem dX5_hostAsks_57 : decode cX5_hostAsks 57 = .ok (.iload_n 3, 1) := dk_29 (dk_at dksX5_hostAsks_2 9 rfl rfl)
theorem dX5_hostAsks_58 : decode cX5_hostAsks 58 = .ok (.iconst (-1), 1) := dk_2 (dk_at dksX5_hostAsks_2 10 rfl rfl)
theorem dX5_hostAsks_59 : decode cX5_hostAsks 59 = .ok (.iastore, 1) := dk_79 (dk_at dksX5_hostAsks_2 11 rfl rfl)
theorem dX5_hostAsks_60 : decode cX5_hostAsks 60 = .ok (.aload_n 0, 1) := dk_42 (dk_at dksX5_hostAsks_2 12 rfl rfl)
theorem dX5_hostAsks_61 : decode cX5_hostAsks 61 = .ok (.getfield 19, 3) := dk_180 0 19 (dk_at dksX5_hostAsks_2 13 rfl rfl)
theorem dX5_hostAsks_64 : decode cX5_hostAsks 64 = .ok (.iload_n 2, 1) := dk_28 (dk_at dksX5_hostAsks_2 16 rfl rfl)
theorem dX5_hostAsks_65 : decode cX5_hostAsks 65 = .ok (.iload_n 1, 1) := dk_27 (dk_at dksX5_hostAsks_2 17 rfl rfl)
theorem dX5_hostAsks_66 : decode cX5_hostAsks 66 = .ok (.iastore, 1) := dk_79 (dk_at dksX5_hostAsks_2 18 rfl rfl)
theorem dX5_hostAsks_67 : decode cX5_hostAsks 67 = .ok (.aload_n 0, 1) := dk_42 (dk_at dksX5_hostAsks_2 19 rfl rfl)
theorem dX5_hostAsks_68 : decode cX5_hostAsks 68 = .ok (.getfield 15, 3) := dk_180 0 15 (dk_at dksX5_hostAsks_2 20 rfl rfl)
theorem dX5_hostAsks_71 : decode cX5_hostAsks 71 = .ok (.iload_n 1, 1) := dk_27 (dk_at dksX5_hostAsks_2 23 rfl rfl)
theorem dX5_hostAsks_72 : decode cX5_hostAsks 72 = .ok (.iload_n 2, 1) := dk_28 (dk_at dksX5_hostAsks_3 0 rfl rfl)
theorem dX5_hostAsks_73 : decode cX5_hostAsks 73 = .ok (.iastore, 1) := dk_79 (dk_at dksX5_hostAsks_3 1 rfl rfl)
theorem dX5_hostAsks_74 : decode cX5_hostAsks 74 = .ok (.return_, 1) := dk_177 (dk_at dksX5_hostAsks_3 2 rfl rfl)
abbrev cX5_bestGuest : ByteArray := prog_9_method_5_code
def yX5_bestGuest : MethodName := ⟨RX5, "bestGuest", "(II)I"⟩
def dkwX5_bestGuest_2 : List UInt8 := [167, 255, 215, 29, 172]
abbrev dktX5_bestGuest_2 : List UInt8 := dkwX5_bestGuest_2 ++ []
def dkwX5_bestGuest_1 : List UInt8 := [184, 0, 58, 154, 0, 17, 42, 27, 21, 4, 29, 182, 0, 61, 153, 0, 6, 21, 4, 62, 132, 4, 1]
abbrev dktX5_bestGuest_1 : List UInt8 := dkwX5_bestGuest_1 ++ dktX5_bestGuest_2
def dkwX5_bestGuest_0 : List UInt8 := [2, 62, 3, 54, 4, 21, 4, 42, 180, 0, 3, 180, 0, 31, 180, 0, 54, 162, 0, 32, 28, 21, 4]
abbrev dktX5_bestGuest_0 : List UInt8 := dkwX5_bestGuest_0 ++ dktX5_bestGuest_1
theorem dksX5_bestGuest_0 : cX5_bestGuest.data.toList.drop 0 = dktX5_bestGuest_0 := by decide +kernel
theorem dksX5_bestGuest_1 : cX5_bestGuest.data.toList.drop 23 = dktX5_bestGuest_1 := dk_seg dksX5_bestGuest_0 23 rfl rfl
theorem dksX5_bestGuest_2 : cX5_bestGuest.data.toList.drop 46 = dktX5_bestGuest_2 := dk_seg dksX5_bestGuest_1 23 rfl rfl
theorem dX5_bestGuest_0 : decode cX5_bestGuest 0 = .ok (.iconst (-1), 1) := dk_2 (dk_at dksX5_bestGuest_0 0 rfl rfl)
theorem dX5_bestGuest_1 : decode cX5_bestGuest 1 = .ok (.istore_n 3, 1) := dk_62 (dk_at dksX5_bestGuest_0 1 rfl rfl)
theorem dX5_bestGuest_2 : decode cX5_bestGuest 2 = .ok (.iconst 0, 1) := dk_3 (dk_at dksX5_bestGuest_0 2 rfl rfl)
theorem dX5_bestGuest_3 : decode cX5_bestGuest 3 = .ok (.istore 4, 2) := dk_54 4 (dk_at dksX5_bestGuest_0 3 rfl rfl)
theorem dX5_bestGuest_5 : decode cX5_bestGuest 5 = .ok (.iload 4, 2) := dk_21 4 (dk_at dksX5_bestGuest_0 5 rfl rfl)
theorem dX5_bestGuest_7 : decode cX5_bestGuest 7 = .ok (.aload_n 0, 1) := dk_42 (dk_at dksX5_bestGuest_0 7 rfl rfl)
theorem dX5_bestGuest_8 : decode cX5_bestGuest 8 = .ok (.getfield 3, 3) := dk_180 0 3 (dk_at dksX5_bestGuest_0 8 rfl rfl)
theorem dX5_bestGuest_11 : decode cX5_bestGuest 11 = .ok (.getfield 31, 3) := dk_180 0 31 (dk_at dksX5_bestGuest_0 11 rfl rfl)
theorem dX5_bestGuest_14 : decode cX5_bestGuest 14 = .ok (.getfield 54, 3) := dk_180 0 54 (dk_at dksX5_bestGuest_0 14 rfl rfl)
theorem dX5_bestGuest_17 : decode cX5_bestGuest 17 = .ok (.if_icmp .ge 32, 3) := dk_162 0 32 (dk_at dksX5_bestGuest_0 17 rfl rfl)
theorem dX5_bestGuest_20 : decode cX5_bestGuest 20 = .ok (.iload_n 2, 1) := dk_28 (dk_at dksX5_bestGuest_0 20 rfl rfl)
theorem dX5_bestGuest_21 : decode cX5_bestGuest 21 = .ok (.iload 4, 2) := dk_21 4 (dk_at dksX5_bestGuest_0 21 rfl rfl)
theorem dX5_bestGuest_23 : decode cX5_bestGuest 23 = .ok (.invokestatic 58, 3) := dk_184 0 58 (dk_at dksX5_bestGuest_1 0 rfl rfl)
theorem dX5_bestGuest_26 : decode cX5_bestGuest 26 = .ok (.ifCond .ne 17, 3) := dk_154 0 17 (dk_at dksX5_bestGuest_1 3 rfl rfl)
theorem dX5_bestGuest_29 : decode cX5_bestGuest 29 = .ok (.aload_n 0, 1) := dk_42 (dk_at dksX5_bestGuest_1 6 rfl rfl)
theorem dX5_bestGuest_30 : decode cX5_bestGuest 30 = .ok (.iload_n 1, 1) := dk_27 (dk_at dksX5_bestGuest_1 7 rfl rfl)
theorem dX5_bestGuest_31 : decode cX5_bestGuest 31 = .ok (.iload 4, 2) := dk_21 4 (dk_at dksX5_bestGuest_1 8 rfl rfl)
theorem dX5_bestGuest_33 : decode cX5_bestGuest 33 = .ok (.iload_n 3, 1) := dk_29 (dk_at dksX5_bestGuest_1 10 rfl rfl)
theorem dX5_bestGuest_34 : decode cX5_bestGuest 34 = .ok (.invokevirtual 61, 3) := dk_182 0 61 (dk_at dksX5_bestGuest_1 11 rfl rfl)
theorem dX5_bestGuest_37 : decode cX5_bestGuest 37 = .ok (.ifCond .eq 6, 3) := dk_153 0 6 (dk_at dksX5_bestGuest_1 14 rfl rfl)
theorem dX5_bestGuest_40 : decode cX5_bestGuest 40 = .ok (.iload 4, 2) := dk_21 4 (dk_at dksX5_bestGuest_1 17 rfl rfl)
theorem dX5_bestGuest_42 : decode cX5_bestGuest 42 = .ok (.istore_n 3, 1) := dk_62 (dk_at dksX5_bestGuest_1 19 rfl rfl)
theorem dX5_bestGuest_43 : decode cX5_bestGuest 43 = .ok (.iinc 4 1, 3) := dk_132 4 1 (dk_at dksX5_bestGuest_1 20 rfl rfl)
theorem dX5_bestGuest_46 : decode cX5_bestGuest 46 = .ok (.goto (-41), 3) := dk_167 255 215 (dk_at dksX5_bestGuest_2 0 rfl rfl)
theorem dX5_bestGuest_49 : decode cX5_bestGuest 49 = .ok (.iload_n 3, 1) := dk_29 (dk_at dksX5_bestGuest_2 3 rfl rfl)
theorem dX5_bestGuest_50 : decode cX5_bestGuest 50 = .ok (.ireturn, 1) := dk_172 (dk_at dksX5_bestGuest_2 4 rfl rfl)
abbrev cX5_hostRather : ByteArray := prog_9_method_2_code
def yX5_hostRather : MethodName := ⟨RX5, "hostRather", "(III)Z"⟩
def dkwX5_hostRather_3 : List UInt8 := [180, 0, 31, 180, 0, 41, 27, 50, 29, 46, 160, 0, 12, 28, 29, 162, 0, 7, 4, 167, 0, 4, 3, 172]
abbrev dktX5_hostRather_3 : List UInt8 := dkwX5_hostRather_3 ++ []
def dkwX5_hostRather_2 : List UInt8 := [50, 29, 46, 163, 0, 39, 42, 180, 0, 3, 180, 0, 31, 180, 0, 41, 27, 50, 28, 46, 42, 180, 0, 3]
abbrev dktX5_hostRather_2 : List UInt8 := dkwX5_hostRather_2 ++ dktX5_hostRather_3
def dkwX5_hostRather_1 : List UInt8 := [180, 0, 3, 180, 0, 31, 180, 0, 41, 27, 50, 28, 46, 42, 180, 0, 3, 180, 0, 31, 180, 0, 41, 27]
abbrev dktX5_hostRather_1 : List UInt8 := dkwX5_hostRather_1 ++ dktX5_hostRather_2
def dkwX5_hostRather_0 : List UInt8 := [42, 180, 0, 3, 180, 0, 31, 27, 28, 182, 0, 35, 154, 0, 5, 3, 172, 29, 2, 159, 0, 70, 42]
abbrev dktX5_hostRather_0 : List UInt8 := dkwX5_hostRather_0 ++ dktX5_hostRather_1
theorem dksX5_hostRather_0 : cX5_hostRather.data.toList.drop 0 = dktX5_hostRather_0 := by decide +kernel
theorem dksX5_hostRather_1 : cX5_hostRather.data.toList.drop 23 = dktX5_hostRather_1 := dk_seg dksX5_hostRather_0 23 rfl rfl
theorem dksX5_hostRather_2 : cX5_hostRather.data.toList.drop 47 = dktX5_hostRather_2 := dk_seg dksX5_hostRather_1 24 rfl rfl
theorem dksX5_hostRather_3 : cX5_hostRather.data.toList.drop 71 = dktX5_hostRather_3 := dk_seg dksX5_hostRather_2 24 rfl rfl
theorem dX5_hostRather_0 : decode cX5_hostRather 0 = .ok (.aload_n 0, 1) := dk_42 (dk_at dksX5_hostRather_0 0 rfl rfl)
theorem dX5_hostRather_1 : decode cX5_hostRather 1 = .ok (.getfield 3, 3) := dk_180 0 3 (dk_at dksX5_hostRather_0 1 rfl rfl)
theorem dX5_hostRather_4 : decode cX5_hostRather 4 = .ok (.getfield 31, 3) := dk_180 0 31 (dk_at dksX5_hostRather_0 4 rfl rfl)
theorem dX5_hostRather_7 : decode cX5_hostRather 7 = .ok (.iload_n 1, 1) := dk_27 (dk_at dksX5_hostRather_0 7 rfl rfl)
theorem dX5_hostRather_8 : decode cX5_hostRather 8 = .ok (.iload_n 2, 1) := dk_28 (dk_at dksX5_hostRather_0 8 rfl rfl)
theorem dX5_hostRather_9 : decode cX5_hostRather 9 = .ok (.invokevirtual 35, 3) := dk_182 0 35 (dk_at dksX5_hostRather_0 9 rfl rfl)
theorem dX5_hostRather_12 : decode cX5_hostRather 12 = .ok (.ifCond .ne 5, 3) := dk_154 0 5 (dk_at dksX5_hostRather_0 12 rfl rfl)
theorem dX5_hostRather_15 : decode cX5_hostRather 15 = .ok (.iconst 0, 1) := dk_3 (dk_at dksX5_hostRather_0 15 rfl rfl)
theorem dX5_hostRather_16 : decode cX5_hostRather 16 = .ok (.ireturn, 1) := dk_172 (dk_at dksX5_hostRather_0 16 rfl rfl)
theorem dX5_hostRather_17 : decode cX5_hostRather 17 = .ok (.iload_n 3, 1) := dk_29 (dk_at dksX5_hostRather_0 17 rfl rfl)
theorem dX5_hostRather_18 : decode cX5_hostRather 18 = .ok (.iconst (-1), 1) := dk_2 (dk_at dksX5_hostRather_0 18 rfl rfl)
theorem dX5_hostRather_19 : decode cX5_hostRather 19 = .ok (.if_icmp .eq 70, 3) := dk_159 0 70 (dk_at dksX5_hostRather_0 19 rfl rfl)
theorem dX5_hostRather_22 : decode cX5_hostRather 22 = .ok (.aload_n 0, 1) := dk_42 (dk_at dksX5_hostRather_0 22 rfl rfl)
theorem dX5_hostRather_23 : decode cX5_hostRather 23 = .ok (.getfield 3, 3) := dk_180 0 3 (dk_at dksX5_hostRather_1 0 rfl rfl)
theorem dX5_hostRather_26 : decode cX5_hostRather 26 = .ok (.getfield 31, 3) := dk_180 0 31 (dk_at dksX5_hostRather_1 3 rfl rfl)
theorem dX5_hostRather_29 : decode cX5_hostRather 29 = .ok (.getfield 41, 3) := dk_180 0 41 (dk_at dksX5_hostRather_1 6 rfl rfl)
theorem dX5_hostRather_32 : decode cX5_hostRather 32 = .ok (.iload_n 1, 1) := dk_27 (dk_at dksX5_hostRather_1 9 rfl rfl)
theorem dX5_hostRather_33 : decode cX5_hostRather 33 = .ok (.aaload, 1) := dk_50 (dk_at dksX5_hostRather_1 10 rfl rfl)
theorem dX5_hostRather_34 : decode cX5_hostRather 34 = .ok (.iload_n 2, 1) := dk_28 (dk_at dksX5_hostRather_1 11 rfl rfl)
theorem dX5_hostRather_35 : decode cX5_hostRather 35 = .ok (.iaload, 1) := dk_46 (dk_at dksX5_hostRather_1 12 rfl rfl)
theorem dX5_hostRather_36 : decode cX5_hostRather 36 = .ok (.aload_n 0, 1) := dk_42 (dk_at dksX5_hostRather_1 13 rfl rfl)
theorem dX5_hostRather_37 : decode cX5_hostRather 37 = .ok (.getfield 3, 3) := dk_180 0 3 (dk_at dksX5_hostRather_1 14 rfl rfl)
theorem dX5_hostRather_40 : decode cX5_hostRather 40 = .ok (.getfield 31, 3) := dk_180 0 31 (dk_at dksX5_hostRather_1 17 rfl rfl)
theorem dX5_hostRather_43 : decode cX5_hostRather 43 = .ok (.getfield 41, 3) := dk_180 0 41 (dk_at dksX5_hostRather_1 20 rfl rfl)
theorem dX5_hostRather_46 : decode cX5_hostRather 46 = .ok (.iload_n 1, 1) := dk_27 (dk_at dksX5_hostRather_1 23 rfl rfl)
theorem dX5_hostRather_47 : decode cX5_hostRather 47 = .ok (.aaload, 1) := dk_50 (dk_at dksX5_hostRather_2 0 rfl rfl)
theorem dX5_hostRather_48 : decode cX5_hostRather 48 = .ok (.iload_n 3, 1) := dk_29 (dk_at dksX5_hostRather_2 1 rfl rfl)
theorem dX5_hostRather_49 : decode cX5_hostRather 49 = .ok (.iaload, 1) := dk_46 (dk_at dksX5_hostRather_2 2 rfl rfl)
theorem dX5_hostRather_50 : decode cX5_hostRather 50 = .ok (.if_icmp .gt 39, 3) := dk_163 0 39 (dk_at dksX5_hostRather_2 3 rfl rfl)
theorem dX5_hostRather_53 : decode cX5_hostRather 53 = .ok (.aload_n 0, 1) := dk_42 (dk_at dksX5_hostRather_2 6 rfl rfl)
theorem dX5_hostRather_54 : decode cX5_hostRather 54 = .ok (.getfield 3, 3) := dk_180 0 3 (dk_at dksX5_hostRather_2 7 rfl rfl)
theorem dX5_hostRather_57 : decode cX5_hostRather 57 = .ok (.getfield 31, 3) := dk_180 0 31 (dk_at dksX5_hostRather_2 10 rfl rfl)
theorem dX5_hostRather_60 : decode cX5_hostRather 60 = .ok (.getfield 41, 3) := dk_180 0 41 (dk_at dksX5_hostRather_2 13 rfl rfl)
theorem dX5_hostRather_63 : decode cX5_hostRather 63 = .ok (.iload_n 1, 1) := dk_27 (dk_at dksX5_hostRather_2 16 rfl rfl)
theorem dX5_hostRather_64 : decode cX5_hostRather 64 = .ok (.aaload, 1) := dk_50 (dk_at dksX5_hostRather_2 17 rfl rfl)
theorem dX5_hostRather_65 : decode cX5_hostRather 65 = .ok (.iload_n 2, 1) := dk_28 (dk_at dksX5_hostRather_2 18 rfl rfl)
theorem dX5_hostRather_66 : decode cX5_hostRather 66 = .ok (.iaload, 1) := dk_46 (dk_at dksX5_hostRather_2 19 rfl rfl)
theorem dX5_hostRather_67 : decode cX5_hostRather 67 = .ok (.aload_n 0, 1) := dk_42 (dk_at dksX5_hostRather_2 20 rfl rfl)
theorem dX5_hostRather_68 : decode cX5_hostRather 68 = .ok (.getfield 3, 3) := dk_180 0 3 (dk_at dksX5_hostRather_2 21 rfl rfl)
theorem dX5_hostRather_71 : decode cX5_hostRather 71 = .ok (.getfield 31, 3) := dk_180 0 31 (dk_at dksX5_hostRather_3 0 rfl rfl)
theorem dX5_hostRather_74 : decode cX5_hostRather 74 = .ok (.getfield 41, 3) := dk_180 0 41 (dk_at dksX5_hostRather_3 3 rfl rfl)
theorem dX5_hostRather_77 : decode cX5_hostRather 77 = .ok (.iload_n 1, 1) := dk_27 (dk_at dksX5_hostRather_3 6 rfl rfl)
theorem dX5_hostRather_78 : decode cX5_hostRather 78 = .ok (.aaload, 1) := dk_50 (dk_at dksX5_hostRather_3 7 rfl rfl)
theorem dX5_hostRather_79 : decode cX5_hostRather 79 = .ok (.iload_n 3, 1) := dk_29 (dk_at dksX5_hostRather_3 8 rfl rfl)
theorem dX5_hostRather_80 : decode cX5_hostRather 80 = .ok (.iaload, 1) := dk_46 (dk_at dksX5_hostRather_3 9 rfl rfl)
theorem dX5_hostRather_81 : decode cX5_hostRather 81 = .ok (.if_icmp .ne 12, 3) := dk_160 0 12 (dk_at dksX5_hostRather_3 10 rfl rfl)
theorem dX5_hostRather_84 : decode cX5_hostRather 84 = .ok (.iload_n 2, 1) := dk_28 (dk_at dksX5_hostRather_3 13 rfl rfl)
theorem dX5_hostRather_85 : decode cX5_hostRather 85 = .ok (.iload_n 3, 1) := dk_29 (dk_at dksX5_hostRather_3 14 rfl rfl)
theorem dX5_hostRather_86 : decode cX5_hostRather 86 = .ok (.if_icmp .ge 7, 3) := dk_162 0 7 (dk_at dksX5_hostRather_3 15 rfl rfl)
theorem dX5_hostRather_89 : decode cX5_hostRather 89 = .ok (.iconst 1, 1) := dk_4 (dk_at dksX5_hostRather_3 18 rfl rfl)
theorem dX5_hostRather_90 : decode cX5_hostRather 90 = .ok (.goto 4, 3) := dk_167 0 4 (dk_at dksX5_hostRather_3 19 rfl rfl)
theorem dX5_hostRather_93 : decode cX5_hostRather 93 = .ok (.iconst 0, 1) := dk_3 (dk_at dksX5_hostRather_3 22 rfl rfl)
theorem dX5_hostRather_94 : decode cX5_hostRather 94 = .ok (.ireturn, 1) := dk_172 (dk_at dksX5_hostRather_3 23 rfl rfl)
abbrev cX5_guestRather : ByteArray := prog_9_method_3_code
def yX5_guestRather : MethodName := ⟨RX5, "guestRather", "(III)Z"⟩
def dkwX5_guestRather_3 : List UInt8 := [180, 0, 31, 180, 0, 45, 27, 50, 29, 46, 160, 0, 12, 28, 29, 162, 0, 7, 4, 167, 0, 4, 3, 172]
abbrev dktX5_guestRather_3 : List UInt8 := dkwX5_guestRather_3 ++ []
def dkwX5_guestRather_2 : List UInt8 := [50, 29, 46, 163, 0, 39, 42, 180, 0, 3, 180, 0, 31, 180, 0, 45, 27, 50, 28, 46, 42, 180, 0, 3]
abbrev dktX5_guestRather_2 : List UInt8 := dkwX5_guestRather_2 ++ dktX5_guestRather_3
def dkwX5_guestRather_1 : List UInt8 := [180, 0, 3, 180, 0, 31, 180, 0, 45, 27, 50, 28, 46, 42, 180, 0, 3, 180, 0, 31, 180, 0, 45, 27]
abbrev dktX5_guestRather_1 : List UInt8 := dkwX5_guestRather_1 ++ dktX5_guestRather_2
def dkwX5_guestRather_0 : List UInt8 := [42, 180, 0, 3, 180, 0, 31, 28, 27, 182, 0, 35, 154, 0, 5, 3, 172, 29, 2, 159, 0, 70, 42]
abbrev dktX5_guestRather_0 : List UInt8 := dkwX5_guestRather_0 ++ dktX5_guestRather_1
theorem dksX5_guestRather_0 : cX5_guestRather.data.toList.drop 0 = dktX5_guestRather_0 := by decide +kernel
theorem dksX5_guestRather_1 : cX5_guestRather.data.toList.drop 23 = dktX5_guestRather_1 := dk_seg dksX5_guestRather_0 23 rfl rfl
theorem dksX5_guestRather_2 : cX5_guestRather.data.toList.drop 47 = dktX5_guestRather_2 := dk_seg dksX5_guestRather_1 24 rfl rfl
theorem dksX5_guestRather_3 : cX5_guestRather.data.toList.drop 71 = dktX5_guestRather_3 := dk_seg dksX5_guestRather_2 24 rfl rfl
theorem dX5_guestRather_0 : decode cX5_guestRather 0 = .ok (.aload_n 0, 1) := dk_42 (dk_at dksX5_guestRather_0 0 rfl rfl)
theorem dX5_guestRather_1 : decode cX5_guestRather 1 = .ok (.getfield 3, 3) := dk_180 0 3 (dk_at dksX5_guestRather_0 1 rfl rfl)
theorem dX5_guestRather_4 : decode cX5_guestRather 4 = .ok (.getfield 31, 3) := dk_180 0 31 (dk_at dksX5_guestRather_0 4 rfl rfl)
theorem dX5_guestRather_7 : decode cX5_guestRather 7 = .ok (.iload_n 2, 1) := dk_28 (dk_at dksX5_guestRather_0 7 rfl rfl)
theorem dX5_guestRather_8 : decode cX5_guestRather 8 = .ok (.iload_n 1, 1) := dk_27 (dk_at dksX5_guestRather_0 8 rfl rfl)
theorem dX5_guestRather_9 : decode cX5_guestRather 9 = .ok (.invokevirtual 35, 3) := dk_182 0 35 (dk_at dksX5_guestRather_0 9 rfl rfl)
theorem dX5_guestRather_12 : decode cX5_guestRather 12 = .ok (.ifCond .ne 5, 3) := dk_154 0 5 (dk_at dksX5_guestRather_0 12 rfl rfl)
theorem dX5_guestRather_15 : decode cX5_guestRather 15 = .ok (.iconst 0, 1) := dk_3 (dk_at dksX5_guestRather_0 15 rfl rfl)
theorem dX5_guestRather_16 : decode cX5_guestRather 16 = .ok (.ireturn, 1) := dk_172 (dk_at dksX5_guestRather_0 16 rfl rfl)
theorem dX5_guestRather_17 : decode cX5_guestRather 17 = .ok (.iload_n 3, 1) := dk_29 (dk_at dksX5_guestRather_0 17 rfl rfl)
theorem dX5_guestRather_18 : decode cX5_guestRather 18 = .ok (.iconst (-1), 1) := dk_2 (dk_at dksX5_guestRather_0 18 rfl rfl)
theorem dX5_guestRather_19 : decode cX5_guestRather 19 = .ok (.if_icmp .eq 70, 3) := dk_159 0 70 (dk_at dksX5_guestRather_0 19 rfl rfl)
theorem dX5_guestRather_22 : decode cX5_guestRather 22 = .ok (.aload_n 0, 1) := dk_42 (dk_at dksX5_guestRather_0 22 rfl rfl)
theorem dX5_guestRather_23 : decode cX5_guestRather 23 = .ok (.getfield 3, 3) := dk_180 0 3 (dk_at dksX5_guestRather_1 0 rfl rfl)
theorem dX5_guestRather_26 : decode cX5_guestRather 26 = .ok (.getfield 31, 3) := dk_180 0 31 (dk_at dksX5_guestRather_1 3 rfl rfl)
theorem dX5_guestRather_29 : decode cX5_guestRather 29 = .ok (.getfield 45, 3) := dk_180 0 45 (dk_at dksX5_guestRather_1 6 rfl rfl)
theorem dX5_guestRather_32 : decode cX5_guestRather 32 = .ok (.iload_n 1, 1) := dk_27 (dk_at dksX5_guestRather_1 9 rfl rfl)
theorem dX5_guestRather_33 : decode cX5_guestRather 33 = .ok (.aaload, 1) := dk_50 (dk_at dksX5_guestRather_1 10 rfl rfl)
theorem dX5_guestRather_34 : decode cX5_guestRather 34 = .ok (.iload_n 2, 1) := dk_28 (dk_at dksX5_guestRather_1 11 rfl rfl)
theorem dX5_guestRather_35 : decode cX5_guestRather 35 = .ok (.iaload, 1) := dk_46 (dk_at dksX5_guestRather_1 12 rfl rfl)
theorem dX5_guestRather_36 : decode cX5_guestRather 36 = .ok (.aload_n 0, 1) := dk_42 (dk_at dksX5_guestRather_1 13 rfl rfl)
theorem dX5_guestRather_37 : decode cX5_guestRather 37 = .ok (.getfield 3, 3) := dk_180 0 3 (dk_at dksX5_guestRather_1 14 rfl rfl)
theorem dX5_guestRather_40 : decode cX5_guestRather 40 = .ok (.getfield 31, 3) := dk_180 0 31 (dk_at dksX5_guestRather_1 17 rfl rfl)
theorem dX5_guestRather_43 : decode cX5_guestRather 43 = .ok (.getfield 45, 3) := dk_180 0 45 (dk_at dksX5_guestRather_1 20 rfl rfl)
theorem dX5_guestRather_46 : decode cX5_guestRather 46 = .ok (.iload_n 1, 1) := dk_27 (dk_at dksX5_guestRather_1 23 rfl rfl)
theorem dX5_guestRather_47 : decode cX5_guestRather 47 = .ok (.aaload, 1) := dk_50 (dk_at dksX5_guestRather_2 0 rfl rfl)
theorem dX5_guestRather_48 : decode cX5_guestRather 48 = .ok (.iload_n 3, 1) := dk_29 (dk_at dksX5_guestRather_2 1 rfl rfl)
theorem dX5_guestRather_49 : decode cX5_guestRather 49 = .ok (.iaload, 1) := dk_46 (dk_at dksX5_guestRather_2 2 rfl rfl)
theorem dX5_guestRather_50 : decode cX5_guestRather 50 = .ok (.if_icmp .gt 39, 3) := dk_163 0 39 (dk_at dksX5_guestRather_2 3 rfl rfl)
theorem dX5_guestRather_53 : decode cX5_guestRather 53 = .ok (.aload_n 0, 1) := dk_42 (dk_at dksX5_guestRather_2 6 rfl rfl)
theorem dX5_guestRather_54 : decode cX5_guestRather 54 = .ok (.getfield 3, 3) := dk_180 0 3 (dk_at dksX5_guestRather_2 7 rfl rfl)
theorem dX5_guestRather_57 : decode cX5_guestRather 57 = .ok (.getfield 31, 3) := dk_180 0 31 (dk_at dksX5_guestRather_2 10 rfl rfl)
theorem dX5_guestRather_60 : decode cX5_guestRather 60 = .ok (.getfield 45, 3) := dk_180 0 45 (dk_at dksX5_guestRather_2 13 rfl rfl)
theorem dX5_guestRather_63 : decode cX5_guestRather 63 = .ok (.iload_n 1, 1) := dk_27 (dk_at dksX5_guestRather_2 16 rfl rfl)
theorem dX5_guestRather_64 : decode cX5_guestRather 64 = .ok (.aaload, 1) := dk_50 (dk_at dksX5_guestRather_2 17 rfl rfl)
theorem dX5_guestRather_65 : decode cX5_guestRather 65 = .ok (.iload_n 2, 1) := dk_28 (dk_at dksX5_guestRather_2 18 rfl rfl)
theorem dX5_guestRather_66 : decode cX5_guestRather 66 = .ok (.iaload, 1) := dk_46 (dk_at dksX5_guestRather_2 19 rfl rfl)
theorem dX5_guestRather_67 : decode cX5_guestRather 67 = .ok (.aload_n 0, 1) := dk_42 (dk_at dksX5_guestRather_2 20 rfl rfl)
theorem dX5_guestRather_68 : decode cX5_guestRather 68 = .ok (.getfield 3, 3) := dk_180 0 3 (dk_at dksX5_guestRather_2 21 rfl rfl)
theorem dX5_guestRather_71 : decode cX5_guestRather 71 = .ok (.getfield 31, 3) := dk_180 0 31 (dk_at dksX5_guestRather_3 0 rfl rfl)
theorem dX5_guestRather_74 : decode cX5_guestRather 74 = .ok (.getfield 45, 3) := dk_180 0 45 (dk_at dksX5_guestRather_3 3 rfl rfl)
theorem dX5_guestRather_77 : decode cX5_guestRather 77 = .ok (.iload_n 1, 1) := dk_27 (dk_at dksX5_guestRather_3 6 rfl rfl)
theorem dX5_guestRather_78 : decode cX5_guestRather 78 = .ok (.aaload, 1) := dk_50 (dk_at dksX5_guestRather_3 7 rfl rfl)
theorem dX5_guestRather_79 : decode cX5_guestRather 79 = .ok (.iload_n 3, 1) := dk_29 (dk_at dksX5_guestRather_3 8 rfl rfl)
theorem dX5_guestRather_80 : decode cX5_guestRather 80 = .ok (.iaload, 1) := dk_46 (dk_at dksX5_guestRather_3 9 rfl rfl)
theorem dX5_guestRather_81 : decode cX5_guestRather 81 = .ok (.if_icmp .ne 12, 3) := dk_160 0 12 (dk_at dksX5_guestRather_3 10 rfl rfl)
theorem dX5_guestRather_84 : decode cX5_guestRather 84 = .ok (.iload_n 2, 1) := dk_28 (dk_at dksX5_guestRather_3 13 rfl rfl)
theorem dX5_guestRather_85 : decode cX5_guestRather 85 = .ok (.iload_n 3, 1) := dk_29 (dk_at dksX5_guestRather_3 14 rfl rfl)
theorem dX5_guestRather_86 : decode cX5_guestRather 86 = .ok (.if_icmp .ge 7, 3) := dk_162 0 7 (dk_at dksX5_guestRather_3 15 rfl rfl)
theorem dX5_guestRather_89 : decode cX5_guestRather 89 = .ok (.iconst 1, 1) := dk_4 (dk_at dksX5_guestRather_3 18 rfl rfl)
theorem dX5_guestRather_90 : decode cX5_guestRather 90 = .ok (.goto 4, 3) := dk_167 0 4 (dk_at dksX5_guestRather_3 19 rfl rfl)
theorem dX5_guestRather_93 : decode cX5_guestRather 93 = .ok (.iconst 0, 1) := dk_3 (dk_at dksX5_guestRather_3 22 rfl rfl)
theorem dX5_guestRather_94 : decode cX5_guestRather 94 = .ok (.ireturn, 1) := dk_172 (dk_at dksX5_guestRather_3 23 rfl rfl)
abbrev cX5_byGuests : ByteArray := prog_9_method_9_code
def yX5_byGuests : MethodName := ⟨RX5, "byGuests", "()LVisitingHours$Pairs;"⟩
def dkwX5_byGuests_2 : List UInt8 := [182, 0, 82, 132, 2, 1, 167, 255, 224, 132, 1, 1, 167, 255, 210, 42, 176]
abbrev dktX5_byGuests_2 : List UInt8 := dkwX5_byGuests_2 ++ []
def dkwX5_byGuests_1 : List UInt8 := [180, 0, 3, 180, 0, 31, 180, 0, 54, 162, 0, 24, 42, 180, 0, 19, 28, 46, 2, 160, 0, 8, 42, 28]
abbrev dktX5_byGuests_1 : List UInt8 := dkwX5_byGuests_1 ++ dktX5_byGuests_2
def dkwX5_byGuests_0 : List UInt8 := [42, 182, 0, 71, 42, 180, 0, 22, 3, 184, 0, 48, 3, 60, 27, 16, 64, 162, 0, 46, 3, 61, 28, 42]
abbrev dktX5_byGuests_0 : List UInt8 := dkwX5_byGuests_0 ++ dktX5_byGuests_1
theorem dksX5_byGuests_0 : cX5_byGuests.data.toList.drop 0 = dktX5_byGuests_0 := by decide +kernel
theorem dksX5_byGuests_1 : cX5_byGuests.data.toList.drop 24 = dktX5_byGuests_1 := dk_seg dksX5_byGuests_0 24 rfl rfl
theorem dksX5_byGuests_2 : cX5_byGuests.data.toList.drop 48 = dktX5_byGuests_2 := dk_seg dksX5_byGuests_1 24 rfl rfl
theorem dX5_byGuests_0 : decode cX5_byGuests 0 = .ok (.aload_n 0, 1) := dk_42 (dk_at dksX5_byGuests_0 0 rfl rfl)
theorem dX5_byGuests_1 : decode cX5_byGuests 1 = .ok (.invokevirtual 71, 3) := dk_182 0 71 (dk_at dksX5_byGuests_0 1 rfl rfl)
theorem dX5_byGuests_4 : decode cX5_byGuests 4 = .ok (.aload_n 0, 1) := dk_42 (dk_at dksX5_byGuests_0 4 rfl rfl)
theorem dX5_byGuests_5 : decode cX5_byGuests 5 = .ok (.getfield 22, 3) := dk_180 0 22 (dk_at dksX5_byGuests_0 5 rfl rfl)
theorem dX5_byGuests_8 : decode cX5_byGuests 8 = .ok (.iconst 0, 1) := dk_3 (dk_at dksX5_byGuests_0 8 rfl rfl)
theorem dX5_byGuests_9 : decode cX5_byGuests 9 = .ok (.invokestatic 48, 3) := dk_184 0 48 (dk_at dksX5_byGuests_0 9 rfl rfl)
theorem dX5_byGuests_12 : decode cX5_byGuests 12 = .ok (.iconst 0, 1) := dk_3 (dk_at dksX5_byGuests_0 12 rfl rfl)
theorem dX5_byGuests_13 : decode cX5_byGuests 13 = .ok (.istore_n 1, 1) := dk_60 (dk_at dksX5_byGuests_0 13 rfl rfl)
theorem dX5_byGuests_14 : decode cX5_byGuests 14 = .ok (.iload_n 1, 1) := dk_27 (dk_at dksX5_byGuests_0 14 rfl rfl)
theorem dX5_byGuests_15 : decode cX5_byGuests 15 = .ok (.bipush 64, 2) := dk_16 64 (dk_at dksX5_byGuests_0 15 rfl rfl)
theorem dX5_byGuests_17 : decode cX5_byGuests 17 = .ok (.if_icmp .ge 46, 3) := dk_162 0 46 (dk_at dksX5_byGuests_0 17 rfl rfl)
theorem dX5_byGuests_20 : decode cX5_byGuests 20 = .ok (.iconst 0, 1) := dk_3 (dk_at dksX5_byGuests_0 20 rfl rfl)
theorem dX5_byGuests_21 : decode cX5_byGuests 21 = .ok (.istore_n 2, 1) := dk_61 (dk_at dksX5_byGuests_0 21 rfl rfl)
theorem dX5_byGuests_22 : decode cX5_byGuests 22 = .ok (.iload_n 2, 1) := dk_28 (dk_at dksX5_byGuests_0 22 rfl rfl)
theorem dX5_byGuests_23 : decode cX5_byGuests 23 = .ok (.aload_n 0, 1) := dk_42 (dk_at dksX5_byGuests_0 23 rfl rfl)
theorem dX5_byGuests_24 : decode cX5_byGuests 24 = .ok (.getfield 3, 3) := dk_180 0 3 (dk_at dksX5_byGuests_1 0 rfl rfl)
theorem dX5_byGuests_27 : decode cX5_byGuests 27 = .ok (.getfield 31, 3) := dk_180 0 31 (dk_at dksX5_byGuests_1 3 rfl rfl)
theorem dX5_byGuests_30 : decode cX5_byGuests 30 = .ok (.getfield 54, 3) := dk_180 0 54 (dk_at dksX5_byGuests_1 6 rfl rfl)
theorem dX5_byGuests_33 : decode cX5_byGuests 33 = .ok (.if_icmp .ge 24, 3) := dk_162 0 24 (dk_at dksX5_byGuests_1 9 rfl rfl)
theorem dX5_byGuests_36 : decode cX5_byGuests 36 = .ok (.aload_n 0, 1) := dk_42 (dk_at dksX5_byGuests_1 12 rfl rfl)
theorem dX5_byGuests_37 : decode cX5_byGuests 37 = .ok (.getfield 19, 3) := dk_180 0 19 (dk_at dksX5_byGuests_1 13 rfl rfl)
theorem dX5_byGuests_40 : decode cX5_byGuests 40 = .ok (.iload_n 2, 1) := dk_28 (dk_at dksX5_byGuests_1 16 rfl rfl)
theorem dX5_byGuests_41 : decode cX5_byGuests 41 = .ok (.iaload, 1) := dk_46 (dk_at dksX5_byGuests_1 17 rfl rfl)
theorem dX5_byGuests_42 : decode cX5_byGuests 42 = .ok (.iconst (-1), 1) := dk_2 (dk_at dksX5_byGuests_1 18 rfl rfl)
theorem dX5_byGuests_43 : decode cX5_byGuests 43 = .ok (.if_icmp .ne 8, 3) := dk_160 0 8 (dk_at dksX5_byGuests_1 19 rfl rfl)
theorem dX5_byGuests_46 : decode cX5_byGuests 46 = .ok (.aload_n 0, 1) := dk_42 (dk_at dksX5_byGuests_1 22 rfl rfl)
theorem dX5_byGuests_47 : decode cX5_byGuests 47 = .ok (.iload_n 2, 1) := dk_28 (dk_at dksX5_byGuests_1 23 rfl rfl)
theorem dX5_byGuests_48 : decode cX5_byGuests 48 = .ok (.invokevirtual 82, 3) := dk_182 0 82 (dk_at dksX5_byGuests_2 0 rfl rfl)
theorem dX5_byGuests_51 : decode cX5_byGuests 51 = .ok (.iinc 2 1, 3) := dk_132 2 1 (dk_at dksX5_byGuests_2 3 rfl rfl)
theorem dX5_byGuests_54 : decode cX5_byGuests 54 = .ok (.goto (-32), 3) := dk_167 255 224 (dk_at dksX5_byGuests_2 6 rfl rfl)
theorem dX5_byGuests_57 : decode cX5_byGuests 57 = .ok (.iinc 1 1, 3) := dk_132 1 1 (dk_at dksX5_byGuests_2 9 rfl rfl)
theorem dX5_byGuests_60 : decode cX5_byGuests 60 = .ok (.goto (-46), 3) := dk_167 255 210 (dk_at dksX5_byGuests_2 12 rfl rfl)
theorem dX5_byGuests_63 : decode cX5_byGuests 63 = .ok (.aload_n 0, 1) := dk_42 (dk_at dksX5_byGuests_2 15 rfl rfl)
theorem dX5_byGuests_64 : decode cX5_byGuests 64 = .ok (.areturn, 1) := dk_176 (dk_at dksX5_byGuests_2 16 rfl rfl)
abbrev cX5_guestAsks : ByteArray := prog_9_method_10_code
def yX5_guestAsks : MethodName := ⟨RX5, "guestAsks", "(I)V"⟩
def dkwX5_guestAsks_3 : List UInt8 := [28, 79, 177]
abbrev dktX5_guestAsks_3 : List UInt8 := dkwX5_guestAsks_3 ++ []
def dkwX5_guestAsks_2 : List UInt8 := [29, 2, 159, 0, 10, 42, 180, 0, 19, 29, 2, 79, 42, 180, 0, 15, 28, 27, 79, 42, 180, 0, 19, 27]
abbrev dktX5_guestAsks_2 : List UInt8 := dkwX5_guestAsks_2 ++ dktX5_guestAsks_3
def dkwX5_guestAsks_1 : List UInt8 := [46, 4, 28, 120, 128, 79, 42, 180, 0, 15, 28, 46, 62, 42, 28, 27, 29, 182, 0, 61, 154, 0, 4, 177]
abbrev dktX5_guestAsks_1 : List UInt8 := dkwX5_guestAsks_1 ++ dktX5_guestAsks_2
def dkwX5_guestAsks_0 : List UInt8 := [42, 27, 42, 180, 0, 22, 27, 46, 182, 0, 85, 61, 28, 2, 160, 0, 4, 177, 42, 180, 0, 22, 27, 92]
abbrev dktX5_guestAsks_0 : List UInt8 := dkwX5_guestAsks_0 ++ dktX5_guestAsks_1
theorem dksX5_guestAsks_0 : cX5_guestAsks.data.toList.drop 0 = dktX5_guestAsks_0 := by decide +kernel
theorem dksX5_guestAsks_1 : cX5_guestAsks.data.toList.drop 24 = dktX5_guestAsks_1 := dk_seg dksX5_guestAsks_0 24 rfl rfl
theorem dksX5_guestAsks_2 : cX5_guestAsks.data.toList.drop 48 = dktX5_guestAsks_2 := dk_seg dksX5_guestAsks_1 24 rfl rfl
theorem dksX5_guestAsks_3 : cX5_guestAsks.data.toList.drop 72 = dktX5_guestAsks_3 := dk_seg dksX5_guestAsks_2 24 rfl rfl
theorem dX5_guestAsks_0 : decode cX5_guestAsks 0 = .ok (.aload_n 0, 1) := dk_42 (dk_at dksX5_guestAsks_0 0 rfl rfl)
theorem dX5_guestAsks_1 : decode cX5_guestAsks 1 = .ok (.iload_n 1, 1) := dk_27 (dk_at dksX5_guestAsks_0 1 rfl rfl)
theorem dX5_guestAsks_2 : decode cX5_guestAsks 2 = .ok (.aload_n 0, 1) := dk_42 (dk_at dksX5_guestAsks_0 2 rfl rfl)
theorem dX5_guestAsks_3 : decode cX5_guestAsks 3 = .ok (.getfield 22, 3) := dk_180 0 22 (dk_at dksX5_guestAsks_0 3 rfl rfl)
theorem dX5_guestAsks_6 : decode cX5_guestAsks 6 = .ok (.iload_n 1, 1) := dk_27 (dk_at dksX5_guestAsks_0 6 rfl rfl)
theorem dX5_guestAsks_7 : decode cX5_guestAsks 7 = .ok (.iaload, 1) := dk_46 (dk_at dksX5_guestAsks_0 7 rfl rfl)
theorem dX5_guestAsks_8 : decode cX5_guestAsks 8 = .ok (.invokevirtual 85, 3) := dk_182 0 85 (dk_at dksX5_guestAsks_0 8 rfl rfl)
theorem dX5_guestAsks_11 : decode cX5_guestAsks 11 = .ok (.istore_n 2, 1) := dk_61 (dk_at dksX5_guestAsks_0 11 rfl rfl)
theorem dX5_guestAsks_12 : decode cX5_guestAsks 12 = .ok (.iload_n 2, 1) := dk_28 (dk_at dksX5_guestAsks_0 12 rfl rfl)
theorem dX5_guestAsks_13 : decode cX5_guestAsks 13 = .ok (.iconst (-1), 1) := dk_2 (dk_at dksX5_guestAsks_0 13 rfl rfl)
theorem dX5_guestAsks_14 : decode cX5_guestAsks 14 = .ok (.if_icmp .ne 4, 3) := dk_160 0 4 (dk_at dksX5_guestAsks_0 14 rfl rfl)
theorem dX5_guestAsks_17 : decode cX5_guestAsks 17 = .ok (.return_, 1) := dk_177 (dk_at dksX5_guestAsks_0 17 rfl rfl)
theorem dX5_guestAsks_18 : decode cX5_guestAsks 18 = .ok (.aload_n 0, 1) := dk_42 (dk_at dksX5_guestAsks_0 18 rfl rfl)
theorem dX5_guestAsks_19 : decode cX5_guestAsks 19 = .ok (.getfield 22, 3) := dk_180 0 22 (dk_at dksX5_guestAsks_0 19 rfl rfl)
theorem dX5_guestAsks_22 : decode cX5_guestAsks 22 = .ok (.iload_n 1, 1) := dk_27 (dk_at dksX5_guestAsks_0 22 rfl rfl)
theorem dX5_guestAsks_23 : decode cX5_guestAsks 23 = .ok (.dup2, 1) := dk_92 (dk_at dksX5_guestAsks_0 23 rfl rfl)
theorem dX5_guestAsks_24 : decode cX5_guestAsks 24 = .ok (.iaload, 1) := dk_46 (dk_at dksX5_guestAsks_1 0 rfl rfl)
theorem dX5_guestAsks_25 : decode cX5_guestAsks 25 = .ok (.iconst 1, 1) := dk_4 (dk_at dksX5_guestAsks_1 1 rfl rfl)
theorem dX5_guestAsks_26 : decode cX5_guestAsks 26 = .ok (.iload_n 2, 1) := dk_28 (dk_at dksX5_guestAsks_1 2 rfl rfl)
theorem dX5_guestAsks_27 : decode cX5_guestAsks 27 = .ok (.ishl, 1) := dk_120 (dk_at dksX5_guestAsks_1 3 rfl rfl)
theorem dX5_guestAsks_28 : decode cX5_guestAsks 28 = .ok (.ior, 1) := dk_128 (dk_at dksX5_guestAsks_1 4 rfl rfl)
theorem dX5_guestAsks_29 : decode cX5_guestAsks 29 = .ok (.iastore, 1) := dk_79 (dk_at dksX5_guestAsks_1 5 rfl rfl)
theorem dX5_guestAsks_30 : decode cX5_guestAsks 30 = .ok (.aload_n 0, 1) := dk_42 (dk_at dksX5_guestAsks_1 6 rfl rfl)
theorem dX5_guestAsks_31 : decode cX5_guestAsks 31 = .ok (.getfield 15, 3) := dk_180 0 15 (dk_at dksX5_guestAsks_1 7 rfl rfl)
theorem dX5_guestAsks_34 : decode cX5_guestAsks 34 = .ok (.iload_n 2, 1) := dk_28 (dk_at dksX5_guestAsks_1 10 rfl rfl)
theorem dX5_guestAsks_35 : decode cX5_guestAsks 35 = .ok (.iaload, 1) := dk_46 (dk_at dksX5_guestAsks_1 11 rfl rfl)
theorem dX5_guestAsks_36 : decode cX5_guestAsks 36 = .ok (.istore_n 3, 1) := dk_62 (dk_at dksX5_guestAsks_1 12 rfl rfl)
theorem dX5_guestAsks_37 : decode cX5_guestAsks 37 = .ok (.aload_n 0, 1) := dk_42 (dk_at dksX5_guestAsks_1 13 rfl rfl)
theorem dX5_guestAsks_38 : decode cX5_guestAsks 38 = .ok (.iload_n 2, 1) := dk_28 (dk_at dksX5_guestAsks_1 14 rfl rfl)
theorem dX5_guestAsks_39 : decode cX5_guestAsks 39 = .ok (.iload_n 1, 1) := dk_27 (dk_at dksX5_guestAsks_1 15 rfl rfl)
theorem dX5_guestAsks_40 : decode cX5_guestAsks 40 = .ok (.iload_n 3, 1) := dk_29 (dk_at dksX5_guestAsks_1 16 rfl rfl)
theorem dX5_guestAsks_41 : decode cX5_guestAsks 41 = .ok (.invokevirtual 61, 3) := dk_182 0 61 (dk_at dksX5_guestAsks_1 17 rfl rfl)
theorem dX5_guestAsks_44 : decode cX5_guestAsks 44 = .ok (.ifCond .ne 4, 3) := dk_154 0 4 (dk_at dksX5_guestAsks_1 20 rfl rfl)
theorem dX5_guestAsks_47 : decode cX5_guestAsks 47 = .ok (.return_, 1) := dk_177 (dk_at dksX5_guestAsks_1 23 rfl rfl)
theorem dX5_guestAsks_48 : decode cX5_guestAsks 48 = .ok (.iload_n 3, 1) := dk_29 (dk_at dksX5_guestAsks_2 0 rfl rfl)
theorem dX5_guestAsks_49 : decode cX5_guestAsks 49 = .ok (.iconst (-1), 1) := dk_2 (dk_at dksX5_guestAsks_2 1 rfl rfl)
theorem dX5_guestAsks_50 : decode cX5_guestAsks 50 = .ok (.if_icmp .eq 10, 3) := dk_159 0 10 (dk_at dksX5_guestAsks_2 2 rfl rfl)
theorem dX5_guestAsks_53 : decode cX5_guestAsks 53 = .ok (.aload_n 0, 1) := dk_42 (dk_at dksX5_guestAsks_2 5 rfl rfl)
theorem dX5_guestAsks_54 : decode cX5_guestAsks 54 = .ok (.getfield 19, 3) := dk_180 0 19 (dk_at dksX5_guestAsks_2 6 rfl rfl)
theorem dX5_guestAsks_57 : decode cX5_guestAsks 57 = .ok (.iload_n 3, 1) := dk_29 (dk_at dksX5_guestAsks_2 9 rfl rfl)
theorem dX5_guestAsks_58 : decode cX5_guestAsks 58 = .ok (.iconst (-1), 1) := dk_2 (dk_at dksX5_guestAsks_2 10 rfl rfl)
theorem dX5_guestAsks_59 : decode cX5_guestAsks 59 = .ok (.iastore, 1) := dk_79 (dk_at dksX5_guestAsks_2 11 rfl rfl)
theorem dX5_guestAsks_60 : decode cX5_guestAsks 60 = .ok (.aload_n 0, 1) := dk_42 (dk_at dksX5_guestAsks_2 12 rfl rfl)
theorem dX5_guestAsks_61 : decode cX5_guestAsks 61 = .ok (.getfield 15, 3) := dk_180 0 15 (dk_at dksX5_guestAsks_2 13 rfl rfl)
theorem dX5_guestAsks_64 : decode cX5_guestAsks 64 = .ok (.iload_n 2, 1) := dk_28 (dk_at dksX5_guestAsks_2 16 rfl rfl)
theorem dX5_guestAsks_65 : decode cX5_guestAsks 65 = .ok (.iload_n 1, 1) := dk_27 (dk_at dksX5_guestAsks_2 17 rfl rfl)
theorem dX5_guestAsks_66 : decode cX5_guestAsks 66 = .ok (.iastore, 1) := dk_79 (dk_at dksX5_guestAsks_2 18 rfl rfl)
theorem dX5_guestAsks_67 : decode cX5_guestAsks 67 = .ok (.aload_n 0, 1) := dk_42 (dk_at dksX5_guestAsks_2 19 rfl rfl)
theorem dX5_guestAsks_68 : decode cX5_guestAsks 68 = .ok (.getfield 19, 3) := dk_180 0 19 (dk_at dksX5_guestAsks_2 20 rfl rfl)
theorem dX5_guestAsks_71 : decode cX5_guestAsks 71 = .ok (.iload_n 1, 1) := dk_27 (dk_at dksX5_guestAsks_2 23 rfl rfl)
theorem dX5_guestAsks_72 : decode cX5_guestAsks 72 = .ok (.iload_n 2, 1) := dk_28 (dk_at dksX5_guestAsks_3 0 rfl rfl)
theorem dX5_guestAsks_73 : decode cX5_guestAsks 73 = .ok (.iastore, 1) := dk_79 (dk_at dksX5_guestAsks_3 1 rfl rfl)
theorem dX5_guestAsks_74 : decode cX5_guestAsks 74 = .ok (.return_, 1) := dk_177 (dk_at dksX5_guestAsks_3 2 rfl rfl)
abbrev cX5_bestHost : ByteArray := prog_9_method_6_code
def yX5_bestHost : MethodName := ⟨RX5, "bestHost", "(II)I"⟩
def dkwX5_bestHost_2 : List UInt8 := [167, 255, 215, 29, 172]
abbrev dktX5_bestHost_2 : List UInt8 := dkwX5_bestHost_2 ++ []
def dkwX5_bestHost_1 : List UInt8 := [184, 0, 58, 154, 0, 17, 42, 27, 21, 4, 29, 182, 0, 68, 153, 0, 6, 21, 4, 62, 132, 4, 1]
abbrev dktX5_bestHost_1 : List UInt8 := dkwX5_bestHost_1 ++ dktX5_bestHost_2
def dkwX5_bestHost_0 : List UInt8 := [2, 62, 3, 54, 4, 21, 4, 42, 180, 0, 3, 180, 0, 31, 180, 0, 65, 162, 0, 32, 28, 21, 4]
abbrev dktX5_bestHost_0 : List UInt8 := dkwX5_bestHost_0 ++ dktX5_bestHost_1
theorem dksX5_bestHost_0 : cX5_bestHost.data.toList.drop 0 = dktX5_bestHost_0 := by decide +kernel
theorem dksX5_bestHost_1 : cX5_bestHost.data.toList.drop 23 = dktX5_bestHost_1 := dk_seg dksX5_bestHost_0 23 rfl rfl
theorem dksX5_bestHost_2 : cX5_bestHost.data.toList.drop 46 = dktX5_bestHost_2 := dk_seg dksX5_bestHost_1 23 rfl rfl
theorem dX5_bestHost_0 : decode cX5_bestHost 0 = .ok (.iconst (-1), 1) := dk_2 (dk_at dksX5_bestHost_0 0 rfl rfl)
theorem dX5_bestHost_1 : decode cX5_bestHost 1 = .ok (.istore_n 3, 1) := dk_62 (dk_at dksX5_bestHost_0 1 rfl rfl)
theorem dX5_bestHost_2 : decode cX5_bestHost 2 = .ok (.iconst 0, 1) := dk_3 (dk_at dksX5_bestHost_0 2 rfl rfl)
theorem dX5_bestHost_3 : decode cX5_bestHost 3 = .ok (.istore 4, 2) := dk_54 4 (dk_at dksX5_bestHost_0 3 rfl rfl)
theorem dX5_bestHost_5 : decode cX5_bestHost 5 = .ok (.iload 4, 2) := dk_21 4 (dk_at dksX5_bestHost_0 5 rfl rfl)
theorem dX5_bestHost_7 : decode cX5_bestHost 7 = .ok (.aload_n 0, 1) := dk_42 (dk_at dksX5_bestHost_0 7 rfl rfl)
theorem dX5_bestHost_8 : decode cX5_bestHost 8 = .ok (.getfield 3, 3) := dk_180 0 3 (dk_at dksX5_bestHost_0 8 rfl rfl)
theorem dX5_bestHost_11 : decode cX5_bestHost 11 = .ok (.getfield 31, 3) := dk_180 0 31 (dk_at dksX5_bestHost_0 11 rfl rfl)
theorem dX5_bestHost_14 : decode cX5_bestHost 14 = .ok (.getfield 65, 3) := dk_180 0 65 (dk_at dksX5_bestHost_0 14 rfl rfl)
theorem dX5_bestHost_17 : decode cX5_bestHost 17 = .ok (.if_icmp .ge 32, 3) := dk_162 0 32 (dk_at dksX5_bestHost_0 17 rfl rfl)
theorem dX5_bestHost_20 : decode cX5_bestHost 20 = .ok (.iload_n 2, 1) := dk_28 (dk_at dksX5_bestHost_0 20 rfl rfl)
theorem dX5_bestHost_21 : decode cX5_bestHost 21 = .ok (.iload 4, 2) := dk_21 4 (dk_at dksX5_bestHost_0 21 rfl rfl)
theorem dX5_bestHost_23 : decode cX5_bestHost 23 = .ok (.invokestatic 58, 3) := dk_184 0 58 (dk_at dksX5_bestHost_1 0 rfl rfl)
theorem dX5_bestHost_26 : decode cX5_bestHost 26 = .ok (.ifCond .ne 17, 3) := dk_154 0 17 (dk_at dksX5_bestHost_1 3 rfl rfl)
theorem dX5_bestHost_29 : decode cX5_bestHost 29 = .ok (.aload_n 0, 1) := dk_42 (dk_at dksX5_bestHost_1 6 rfl rfl)
theorem dX5_bestHost_30 : decode cX5_bestHost 30 = .ok (.iload_n 1, 1) := dk_27 (dk_at dksX5_bestHost_1 7 rfl rfl)
theorem dX5_bestHost_31 : decode cX5_bestHost 31 = .ok (.iload 4, 2) := dk_21 4 (dk_at dksX5_bestHost_1 8 rfl rfl)
theorem dX5_bestHost_33 : decode cX5_bestHost 33 = .ok (.iload_n 3, 1) := dk_29 (dk_at dksX5_bestHost_1 10 rfl rfl)
theorem dX5_bestHost_34 : decode cX5_bestHost 34 = .ok (.invokevirtual 68, 3) := dk_182 0 68 (dk_at dksX5_bestHost_1 11 rfl rfl)
theorem dX5_bestHost_37 : decode cX5_bestHost 37 = .ok (.ifCond .eq 6, 3) := dk_153 0 6 (dk_at dksX5_bestHost_1 14 rfl rfl)
theorem dX5_bestHost_40 : decode cX5_bestHost 40 = .ok (.iload 4, 2) := dk_21 4 (dk_at dksX5_bestHost_1 17 rfl rfl)
theorem dX5_bestHost_42 : decode cX5_bestHost 42 = .ok (.istore_n 3, 1) := dk_62 (dk_at dksX5_bestHost_1 19 rfl rfl)
theorem dX5_bestHost_43 : decode cX5_bestHost 43 = .ok (.iinc 4 1, 3) := dk_132 4 1 (dk_at dksX5_bestHost_1 20 rfl rfl)
theorem dX5_bestHost_46 : decode cX5_bestHost 46 = .ok (.goto (-41), 3) := dk_167 255 215 (dk_at dksX5_bestHost_2 0 rfl rfl)
theorem dX5_bestHost_49 : decode cX5_bestHost 49 = .ok (.iload_n 3, 1) := dk_29 (dk_at dksX5_bestHost_2 3 rfl rfl)
theorem dX5_bestHost_50 : decode cX5_bestHost 50 = .ok (.ireturn, 1) := dk_172 (dk_at dksX5_bestHost_2 4 rfl rfl)
abbrev cX5_looksOn : ByteArray := prog_9_method_14_code
def yX5_looksOn : MethodName := ⟨RX5, "looksOn", "(I)V"⟩
def dkwX5_looksOn_6 : List UInt8 := [132, 2, 1, 167, 255, 167, 177]
abbrev dktX5_looksOn_6 : List UInt8 := dkwX5_looksOn_6 ++ []
def dkwX5_looksOn_5 : List UInt8 := [27, 79, 42, 27, 4, 96, 182, 0, 104, 42, 180, 0, 15, 27, 2, 79, 42, 180, 0, 19, 28, 2, 79]
abbrev dktX5_looksOn_5 : List UInt8 := dkwX5_looksOn_5 ++ dktX5_looksOn_6
def dkwX5_looksOn_4 : List UInt8 := [42, 27, 28, 182, 0, 111, 154, 0, 6, 167, 0, 38, 42, 180, 0, 15, 27, 28, 79, 42, 180, 0, 19, 28]
abbrev dktX5_looksOn_4 : List UInt8 := dkwX5_looksOn_4 ++ dktX5_looksOn_5
def dkwX5_looksOn_3 : List UInt8 := [180, 0, 19, 28, 46, 2, 160, 0, 65, 42, 180, 0, 3, 180, 0, 31, 27, 28, 182, 0, 35, 153, 0, 50]
abbrev dktX5_looksOn_3 : List UInt8 := dkwX5_looksOn_3 ++ dktX5_looksOn_4
def dkwX5_looksOn_2 : List UInt8 := [27, 4, 96, 182, 0, 104, 177, 3, 61, 28, 42, 180, 0, 3, 180, 0, 31, 180, 0, 54, 162, 0, 81, 42]
abbrev dktX5_looksOn_2 : List UInt8 := dkwX5_looksOn_2 ++ dktX5_looksOn_3
def dkwX5_looksOn_1 : List UInt8 := [154, 0, 7, 4, 167, 0, 4, 3, 96, 181, 0, 101, 177, 42, 180, 0, 25, 27, 46, 2, 160, 0, 11, 42]
abbrev dktX5_looksOn_1 : List UInt8 := dkwX5_looksOn_1 ++ dktX5_looksOn_2
def dkwX5_looksOn_0 : List UInt8 := [27, 42, 180, 0, 3, 180, 0, 31, 180, 0, 65, 160, 0, 25, 42, 89, 180, 0, 101, 42, 182, 0, 107]
abbrev dktX5_looksOn_0 : List UInt8 := dkwX5_looksOn_0 ++ dktX5_looksOn_1
theorem dksX5_looksOn_0 : cX5_looksOn.data.toList.drop 0 = dktX5_looksOn_0 := by decide +kernel
theorem dksX5_looksOn_1 : cX5_looksOn.data.toList.drop 23 = dktX5_looksOn_1 := dk_seg dksX5_looksOn_0 23 rfl rfl
theorem dksX5_looksOn_2 : cX5_looksOn.data.toList.drop 47 = dktX5_looksOn_2 := dk_seg dksX5_looksOn_1 24 rfl rfl
theorem dksX5_looksOn_3 : cX5_looksOn.data.toList.drop 71 = dktX5_looksOn_3 := dk_seg dksX5_looksOn_2 24 rfl rfl
theorem dksX5_looksOn_4 : cX5_looksOn.data.toList.drop 95 = dktX5_looksOn_4 := dk_seg dksX5_looksOn_3 24 rfl rfl
theorem dksX5_looksOn_5 : cX5_looksOn.data.toList.drop 119 = dktX5_looksOn_5 := dk_seg dksX5_looksOn_4 24 rfl rfl
theorem dksX5_looksOn_6 : cX5_looksOn.data.toList.drop 142 = dktX5_looksOn_6 := dk_seg dksX5_looksOn_5 23 rfl rfl
theorem dX5_looksOn_0 : decode cX5_looksOn 0 = .ok (.iload_n 1, 1) := dk_27 (dk_at dksX5_looksOn_0 0 rfl rfl)
theorem dX5_looksOn_1 : decode cX5_looksOn 1 = .ok (.aload_n 0, 1) := dk_42 (dk_at dksX5_looksOn_0 1 rfl rfl)
theorem dX5_looksOn_2 : decode cX5_looksOn 2 = .ok (.getfield 3, 3) := dk_180 0 3 (dk_at dksX5_looksOn_0 2 rfl rfl)
theorem dX5_looksOn_5 : decode cX5_looksOn 5 = .ok (.getfield 31, 3) := dk_180 0 31 (dk_at dksX5_looksOn_0 5 rfl rfl)
theorem dX5_looksOn_8 : decode cX5_looksOn 8 = .ok (.getfield 65, 3) := dk_180 0 65 (dk_at dksX5_looksOn_0 8 rfl rfl)
theorem dX5_looksOn_11 : decode cX5_looksOn 11 = .ok (.if_icmp .ne 25, 3) := dk_160 0 25 (dk_at dksX5_looksOn_0 11 rfl rfl)
theorem dX5_looksOn_14 : decode cX5_looksOn 14 = .ok (.aload_n 0, 1) := dk_42 (dk_at dksX5_looksOn_0 14 rfl rfl)
theorem dX5_looksOn_15 : decode cX5_looksOn 15 = .ok (.dup, 1) := dk_89 (dk_at dksX5_looksOn_0 15 rfl rfl)
theorem dX5_looksOn_16 : decode cX5_looksOn 16 = .ok (.getfield 101, 3) := dk_180 0 101 (dk_at dksX5_looksOn_0 16 rfl rfl)
theorem dX5_looksOn_19 : decode cX5_looksOn 19 = .ok (.aload_n 0, 1) := dk_42 (dk_at dksX5_looksOn_0 19 rfl rfl)
theorem dX5_looksOn_20 : decode cX5_looksOn 20 = .ok (.invokevirtual 107, 3) := dk_182 0 107 (dk_at dksX5_looksOn_0 20 rfl rfl)
theorem dX5_looksOn_23 : decode cX5_looksOn 23 = .ok (.ifCond .ne 7, 3) := dk_154 0 7 (dk_at dksX5_looksOn_1 0 rfl rfl)
theorem dX5_looksOn_26 : decode cX5_looksOn 26 = .ok (.iconst 1, 1) := dk_4 (dk_at dksX5_looksOn_1 3 rfl rfl)
theorem dX5_looksOn_27 : decode cX5_looksOn 27 = .ok (.goto 4, 3) := dk_167 0 4 (dk_at dksX5_looksOn_1 4 rfl rfl)
theorem dX5_looksOn_30 : decode cX5_looksOn 30 = .ok (.iconst 0, 1) := dk_3 (dk_at dksX5_looksOn_1 7 rfl rfl)
theorem dX5_looksOn_31 : decode cX5_looksOn 31 = .ok (.iadd, 1) := dk_96 (dk_at dksX5_looksOn_1 8 rfl rfl)
theorem dX5_looksOn_32 : decode cX5_looksOn 32 = .ok (.putfield 101, 3) := dk_181 0 101 (dk_at dksX5_looksOn_1 9 rfl rfl)
theorem dX5_looksOn_35 : decode cX5_looksOn 35 = .ok (.return_, 1) := dk_177 (dk_at dksX5_looksOn_1 12 rfl rfl)
theorem dX5_looksOn_36 : decode cX5_looksOn 36 = .ok (.aload_n 0, 1) := dk_42 (dk_at dksX5_looksOn_1 13 rfl rfl)
theorem dX5_looksOn_37 : decode cX5_looksOn 37 = .ok (.getfield 25, 3) := dk_180 0 25 (dk_at dksX5_looksOn_1 14 rfl rfl)
theorem dX5_looksOn_40 : decode cX5_looksOn 40 = .ok (.iload_n 1, 1) := dk_27 (dk_at dksX5_looksOn_1 17 rfl rfl)
theorem dX5_looksOn_41 : decode cX5_looksOn 41 = .ok (.iaload, 1) := dk_46 (dk_at dksX5_looksOn_1 18 rfl rfl)
theorem dX5_looksOn_42 : decode cX5_looksOn 42 = .ok (.iconst (-1), 1) := dk_2 (dk_at dksX5_looksOn_1 19 rfl rfl)
theorem dX5_looksOn_43 : decode cX5_looksOn 43 = .ok (.if_icmp .ne 11, 3) := dk_160 0 11 (dk_at dksX5_looksOn_1 20 rfl rfl)
theorem dX5_looksOn_46 : decode cX5_looksOn 46 = .ok (.aload_n 0, 1) := dk_42 (dk_at dksX5_looksOn_1 23 rfl rfl)
theorem dX5_looksOn_47 : decode cX5_looksOn 47 = .ok (.iload_n 1, 1) := dk_27 (dk_at dksX5_looksOn_2 0 rfl rfl)
theorem dX5_looksOn_48 : decode cX5_looksOn 48 = .ok (.iconst 1, 1) := dk_4 (dk_at dksX5_looksOn_2 1 rfl rfl)
theorem dX5_looksOn_49 : decode cX5_looksOn 49 = .ok (.iadd, 1) := dk_96 (dk_at dksX5_looksOn_2 2 rfl rfl)
theorem dX5_looksOn_50 : decode cX5_looksOn 50 = .ok (.invokevirtual 104, 3) := dk_182 0 104 (dk_at dksX5_looksOn_2 3 rfl rfl)
theorem dX5_looksOn_53 : decode cX5_looksOn 53 = .ok (.return_, 1) := dk_177 (dk_at dksX5_looksOn_2 6 rfl rfl)
theorem dX5_looksOn_54 : decode cX5_looksOn 54 = .ok (.iconst 0, 1) := dk_3 (dk_at dksX5_looksOn_2 7 rfl rfl)
theorem dX5_looksOn_55 : decode cX5_looksOn 55 = .ok (.istore_n 2, 1) := dk_61 (dk_at dksX5_looksOn_2 8 rfl rfl)
theorem dX5_looksOn_56 : decode cX5_looksOn 56 = .ok (.iload_n 2, 1) := dk_28 (dk_at dksX5_looksOn_2 9 rfl rfl)
theorem dX5_looksOn_57 : decode cX5_looksOn 57 = .ok (.aload_n 0, 1) := dk_42 (dk_at dksX5_looksOn_2 10 rfl rfl)
theorem dX5_looksOn_58 : decode cX5_looksOn 58 = .ok (.getfield 3, 3) := dk_180 0 3 (dk_at dksX5_looksOn_2 11 rfl rfl)
theorem dX5_looksOn_61 : decode cX5_looksOn 61 = .ok (.getfield 31, 3) := dk_180 0 31 (dk_at dksX5_looksOn_2 14 rfl rfl)
theorem dX5_looksOn_64 : decode cX5_looksOn 64 = .ok (.getfield 54, 3) := dk_180 0 54 (dk_at dksX5_looksOn_2 17 rfl rfl)
theorem dX5_looksOn_67 : decode cX5_looksOn 67 = .ok (.if_icmp .ge 81, 3) := dk_162 0 81 (dk_at dksX5_looksOn_2 20 rfl rfl)
theorem dX5_looksOn_70 : decode cX5_looksOn 70 = .ok (.aload_n 0, 1) := dk_42 (dk_at dksX5_looksOn_2 23 rfl rfl)
theorem dX5_looksOn_71 : decode cX5_looksOn 71 = .ok (.getfield 19, 3) := dk_180 0 19 (dk_at dksX5_looksOn_3 0 rfl rfl)
theorem dX5_looksOn_74 : decode cX5_looksOn 74 = .ok (.iload_n 2, 1) := dk_28 (dk_at dksX5_looksOn_3 3 rfl rfl)
theorem dX5_looksOn_75 : decode cX5_looksOn 75 = .ok (.iaload, 1) := dk_46 (dk_at dksX5_looksOn_3 4 rfl rfl)
theorem dX5_looksOn_76 : decode cX5_looksOn 76 = .ok (.iconst (-1), 1) := dk_2 (dk_at dksX5_looksOn_3 5 rfl rfl)
theorem dX5_looksOn_77 : decode cX5_looksOn 77 = .ok (.if_icmp .ne 65, 3) := dk_160 0 65 (dk_at dksX5_looksOn_3 6 rfl rfl)
theorem dX5_looksOn_80 : decode cX5_looksOn 80 = .ok (.aload_n 0, 1) := dk_42 (dk_at dksX5_looksOn_3 9 rfl rfl)
theorem dX5_looksOn_81 : decode cX5_looksOn 81 = .ok (.getfield 3, 3) := dk_180 0 3 (dk_at dksX5_looksOn_3 10 rfl rfl)
theorem dX5_looksOn_84 : decode cX5_looksOn 84 = .ok (.getfield 31, 3) := dk_180 0 31 (dk_at dksX5_looksOn_3 13 rfl rfl)
theorem dX5_looksOn_87 : decode cX5_looksOn 87 = .ok (.iload_n 1, 1) := dk_27 (dk_at dksX5_looksOn_3 16 rfl rfl)
theorem dX5_looksOn_88 : decode cX5_looksOn 88 = .ok (.iload_n 2, 1) := dk_28 (dk_at dksX5_looksOn_3 17 rfl rfl)
theorem dX5_looksOn_89 : decode cX5_looksOn 89 = .ok (.invokevirtual 35, 3) := dk_182 0 35 (dk_at dksX5_looksOn_3 18 rfl rfl)
theorem dX5_looksOn_92 : decode cX5_looksOn 92 = .ok (.ifCond .eq 50, 3) := dk_153 0 50 (dk_at dksX5_looksOn_3 21 rfl rfl)
theorem dX5_looksOn_95 : decode cX5_looksOn 95 = .ok (.aload_n 0, 1) := dk_42 (dk_at dksX5_looksOn_4 0 rfl rfl)
theorem dX5_looksOn_96 : decode cX5_looksOn 96 = .ok (.iload_n 1, 1) := dk_27 (dk_at dksX5_looksOn_4 1 rfl rfl)
theorem dX5_looksOn_97 : decode cX5_looksOn 97 = .ok (.iload_n 2, 1) := dk_28 (dk_at dksX5_looksOn_4 2 rfl rfl)
theorem dX5_looksOn_98 : decode cX5_looksOn 98 = .ok (.invokevirtual 111, 3) := dk_182 0 111 (dk_at dksX5_looksOn_4 3 rfl rfl)
theorem dX5_looksOn_101 : decode cX5_looksOn 101 = .ok (.ifCond .ne 6, 3) := dk_154 0 6 (dk_at dksX5_looksOn_4 6 rfl rfl)
theorem dX5_looksOn_104 : decode cX5_looksOn 104 = .ok (.goto 38, 3) := dk_167 0 38 (dk_at dksX5_looksOn_4 9 rfl rfl)
theorem dX5_looksOn_107 : decode cX5_looksOn 107 = .ok (.aload_n 0, 1) := dk_42 (dk_at dksX5_looksOn_4 12 rfl rfl)
theorem dX5_looksOn_108 : decode cX5_looksOn 108 = .ok (.getfield 15, 3) := dk_180 0 15 (dk_at dksX5_looksOn_4 13 rfl rfl)
theorem dX5_looksOn_111 : decode cX5_looksOn 111 = .ok (.iload_n 1, 1) := dk_27 (dk_at dksX5_looksOn_4 16 rfl rfl)
theorem dX5_looksOn_112 : decode cX5_looksOn 112 = .ok (.iload_n 2, 1) := dk_28 (dk_at dksX5_looksOn_4 17 rfl rfl)
theorem dX5_looksOn_113 : decode cX5_looksOn 113 = .ok (.iastore, 1) := dk_79 (dk_at dksX5_looksOn_4 18 rfl rfl)
theorem dX5_looksOn_114 : decode cX5_looksOn 114 = .ok (.aload_n 0, 1) := dk_42 (dk_at dksX5_looksOn_4 19 rfl rfl)
theorem dX5_looksOn_115 : decode cX5_looksOn 115 = .ok (.getfield 19, 3) := dk_180 0 19 (dk_at dksX5_looksOn_4 20 rfl rfl)
theorem dX5_looksOn_118 : decode cX5_looksOn 118 = .ok (.iload_n 2, 1) := dk_28 (dk_at dksX5_looksOn_4 23 rfl rfl)
theorem dX5_looksOn_119 : decode cX5_looksOn 119 = .ok (.iload_n 1, 1) := dk_27 (dk_at dksX5_looksOn_5 0 rfl rfl)
theorem dX5_looksOn_120 : decode cX5_looksOn 120 = .ok (.iastore, 1) := dk_79 (dk_at dksX5_looksOn_5 1 rfl rfl)
theorem dX5_looksOn_121 : decode cX5_looksOn 121 = .ok (.aload_n 0, 1) := dk_42 (dk_at dksX5_looksOn_5 2 rfl rfl)
theorem dX5_looksOn_122 : decode cX5_looksOn 122 = .ok (.iload_n 1, 1) := dk_27 (dk_at dksX5_looksOn_5 3 rfl rfl)
theorem dX5_looksOn_123 : decode cX5_looksOn 123 = .ok (.iconst 1, 1) := dk_4 (dk_at dksX5_looksOn_5 4 rfl rfl)
theorem dX5_looksOn_124 : decode cX5_looksOn 124 = .ok (.iadd, 1) := dk_96 (dk_at dksX5_looksOn_5 5 rfl rfl)
theorem dX5_looksOn_125 : decode cX5_looksOn 125 = .ok (.invokevirtual 104, 3) := dk_182 0 104 (dk_at dksX5_looksOn_5 6 rfl rfl)
theorem dX5_looksOn_128 : decode cX5_looksOn 128 = .ok (.aload_n 0, 1) := dk_42 (dk_at dksX5_looksOn_5 9 rfl rfl)
theorem dX5_looksOn_129 : decode cX5_looksOn 129 = .ok (.getfield 15, 3) := dk_180 0 15 (dk_at dksX5_looksOn_5 10 rfl rfl)
theorem dX5_looksOn_132 : decode cX5_looksOn 132 = .ok (.iload_n 1, 1) := dk_27 (dk_at dksX5_looksOn_5 13 rfl rfl)
theorem dX5_looksOn_133 : decode cX5_looksOn 133 = .ok (.iconst (-1), 1) := dk_2 (dk_at dksX5_looksOn_5 14 rfl rfl)
theorem dX5_looksOn_134 : decode cX5_looksOn 134 = .ok (.iastore, 1) := dk_79 (dk_at dksX5_looksOn_5 15 rfl rfl)
theorem dX5_looksOn_135 : decode cX5_looksOn 135 = .ok (.aload_n 0, 1) := dk_42 (dk_at dksX5_looksOn_5 16 rfl rfl)
theorem dX5_looksOn_136 : decode cX5_looksOn 136 = .ok (.getfield 19, 3) := dk_180 0 19 (dk_at dksX5_looksOn_5 17 rfl rfl)
theorem dX5_looksOn_139 : decode cX5_looksOn 139 = .ok (.iload_n 2, 1) := dk_28 (dk_at dksX5_looksOn_5 20 rfl rfl)
theorem dX5_looksOn_140 : decode cX5_looksOn 140 = .ok (.iconst (-1), 1) := dk_2 (dk_at dksX5_looksOn_5 21 rfl rfl)
theorem dX5_looksOn_141 : decode cX5_looksOn 141 = .ok (.iastore, 1) := dk_79 (dk_at dksX5_looksOn_5 22 rfl rfl)
theorem dX5_looksOn_142 : decode cX5_looksOn 142 = .ok (.iinc 2 1, 3) := dk_132 2 1 (dk_at dksX5_looksOn_6 0 rfl rfl)
theorem dX5_looksOn_145 : decode cX5_looksOn 145 = .ok (.goto (-89), 3) := dk_167 255 167 (dk_at dksX5_looksOn_6 3 rfl rfl)
theorem dX5_looksOn_148 : decode cX5_looksOn 148 = .ok (.return_, 1) := dk_177 (dk_at dksX5_looksOn_6 6 rfl rfl)
abbrev cX5_rathers : ByteArray := prog_9_method_11_code
def yX5_rathers : MethodName := ⟨RX5, "rathers", "()I"⟩
def dkwX5_rathers_4 : List UInt8 := [167, 255, 169, 27, 172]
abbrev dktX5_rathers_4 : List UInt8 := dkwX5_rathers_4 ++ []
def dkwX5_rathers_3 : List UInt8 := [182, 0, 68, 153, 0, 7, 4, 167, 0, 4, 3, 96, 60, 132, 3, 1, 167, 255, 191, 132, 2, 1]
abbrev dktX5_rathers_3 : List UInt8 := dkwX5_rathers_3 ++ dktX5_rathers_4
def dkwX5_rathers_2 : List UInt8 := [28, 29, 42, 180, 0, 15, 28, 46, 182, 0, 61, 153, 0, 22, 42, 29, 28, 42, 180, 0, 19, 29, 46]
abbrev dktX5_rathers_2 : List UInt8 := dkwX5_rathers_2 ++ dktX5_rathers_3
def dkwX5_rathers_1 : List UInt8 := [180, 0, 3, 180, 0, 31, 180, 0, 54, 162, 0, 57, 27, 42, 180, 0, 15, 28, 46, 29, 159, 0, 37, 42]
abbrev dktX5_rathers_1 : List UInt8 := dkwX5_rathers_1 ++ dktX5_rathers_2
def dkwX5_rathers_0 : List UInt8 := [3, 60, 3, 61, 28, 42, 180, 0, 3, 180, 0, 31, 180, 0, 65, 162, 0, 79, 3, 62, 29, 42]
abbrev dktX5_rathers_0 : List UInt8 := dkwX5_rathers_0 ++ dktX5_rathers_1
theorem dksX5_rathers_0 : cX5_rathers.data.toList.drop 0 = dktX5_rathers_0 := by decide +kernel
theorem dksX5_rathers_1 : cX5_rathers.data.toList.drop 22 = dktX5_rathers_1 := dk_seg dksX5_rathers_0 22 rfl rfl
theorem dksX5_rathers_2 : cX5_rathers.data.toList.drop 46 = dktX5_rathers_2 := dk_seg dksX5_rathers_1 24 rfl rfl
theorem dksX5_rathers_3 : cX5_rathers.data.toList.drop 69 = dktX5_rathers_3 := dk_seg dksX5_rathers_2 23 rfl rfl
theorem dksX5_rathers_4 : cX5_rathers.data.toList.drop 91 = dktX5_rathers_4 := dk_seg dksX5_rathers_3 22 rfl rfl
theorem dX5_rathers_0 : decode cX5_rathers 0 = .ok (.iconst 0, 1) := dk_3 (dk_at dksX5_rathers_0 0 rfl rfl)
theorem dX5_rathers_1 : decode cX5_rathers 1 = .ok (.istore_n 1, 1) := dk_60 (dk_at dksX5_rathers_0 1 rfl rfl)
theorem dX5_rathers_2 : decode cX5_rathers 2 = .ok (.iconst 0, 1) := dk_3 (dk_at dksX5_rathers_0 2 rfl rfl)
theorem dX5_rathers_3 : decode cX5_rathers 3 = .ok (.istore_n 2, 1) := dk_61 (dk_at dksX5_rathers_0 3 rfl rfl)
theorem dX5_rathers_4 : decode cX5_rathers 4 = .ok (.iload_n 2, 1) := dk_28 (dk_at dksX5_rathers_0 4 rfl rfl)
theorem dX5_rathers_5 : decode cX5_rathers 5 = .ok (.aload_n 0, 1) := dk_42 (dk_at dksX5_rathers_0 5 rfl rfl)
theorem dX5_rathers_6 : decode cX5_rathers 6 = .ok (.getfield 3, 3) := dk_180 0 3 (dk_at dksX5_rathers_0 6 rfl rfl)
theorem dX5_rathers_9 : decode cX5_rathers 9 = .ok (.getfield 31, 3) := dk_180 0 31 (dk_at dksX5_rathers_0 9 rfl rfl)
theorem dX5_rathers_12 : decode cX5_rathers 12 = .ok (.getfield 65, 3) := dk_180 0 65 (dk_at dksX5_rathers_0 12 rfl rfl)
theorem dX5_rathers_15 : decode cX5_rathers 15 = .ok (.if_icmp .ge 79, 3) := dk_162 0 79 (dk_at dksX5_rathers_0 15 rfl rfl)
theorem dX5_rathers_18 : decode cX5_rathers 18 = .ok (.iconst 0, 1) := dk_3 (dk_at dksX5_rathers_0 18 rfl rfl)
theorem dX5_rathers_19 : decode cX5_rathers 19 = .ok (.istore_n 3, 1) := dk_62 (dk_at dksX5_rathers_0 19 rfl rfl)
theorem dX5_rathers_20 : decode cX5_rathers 20 = .ok (.iload_n 3, 1) := dk_29 (dk_at dksX5_rathers_0 20 rfl rfl)
theorem dX5_rathers_21 : decode cX5_rathers 21 = .ok (.aload_n 0, 1) := dk_42 (dk_at dksX5_rathers_0 21 rfl rfl)
theorem dX5_rathers_22 : decode cX5_rathers 22 = .ok (.getfield 3, 3) := dk_180 0 3 (dk_at dksX5_rathers_1 0 rfl rfl)
theorem dX5_rathers_25 : decode cX5_rathers 25 = .ok (.getfield 31, 3) := dk_180 0 31 (dk_at dksX5_rathers_1 3 rfl rfl)
theorem dX5_rathers_28 : decode cX5_rathers 28 = .ok (.getfield 54, 3) := dk_180 0 54 (dk_at dksX5_rathers_1 6 rfl rfl)
theorem dX5_rathers_31 : decode cX5_rathers 31 = .ok (.if_icmp .ge 57, 3) := dk_162 0 57 (dk_at dksX5_rathers_1 9 rfl rfl)
theorem dX5_rathers_34 : decode cX5_rathers 34 = .ok (.iload_n 1, 1) := dk_27 (dk_at dksX5_rathers_1 12 rfl rfl)
theorem dX5_rathers_35 : decode cX5_rathers 35 = .ok (.aload_n 0, 1) := dk_42 (dk_at dksX5_rathers_1 13 rfl rfl)
theorem dX5_rathers_36 : decode cX5_rathers 36 = .ok (.getfield 15, 3) := dk_180 0 15 (dk_at dksX5_rathers_1 14 rfl rfl)
theorem dX5_rathers_39 : decode cX5_rathers 39 = .ok (.iload_n 2, 1) := dk_28 (dk_at dksX5_rathers_1 17 rfl rfl)
theorem dX5_rathers_40 : decode cX5_rathers 40 = .ok (.iaload, 1) := dk_46 (dk_at dksX5_rathers_1 18 rfl rfl)
theorem dX5_rathers_41 : decode cX5_rathers 41 = .ok (.iload_n 3, 1) := dk_29 (dk_at dksX5_rathers_1 19 rfl rfl)
theorem dX5_rathers_42 : decode cX5_rathers 42 = .ok (.if_icmp .eq 37, 3) := dk_159 0 37 (dk_at dksX5_rathers_1 20 rfl rfl)
theorem dX5_rathers_45 : decode cX5_rathers 45 = .ok (.aload_n 0, 1) := dk_42 (dk_at dksX5_rathers_1 23 rfl rfl)
theorem dX5_rathers_46 : decode cX5_rathers 46 = .ok (.iload_n 2, 1) := dk_28 (dk_at dksX5_rathers_2 0 rfl rfl)
theorem dX5_rathers_47 : decode cX5_rathers 47 = .ok (.iload_n 3, 1) := dk_29 (dk_at dksX5_rathers_2 1 rfl rfl)
theorem dX5_rathers_48 : decode cX5_rathers 48 = .ok (.aload_n 0, 1) := dk_42 (dk_at dksX5_rathers_2 2 rfl rfl)
theorem dX5_rathers_49 : decode cX5_rathers 49 = .ok (.getfield 15, 3) := dk_180 0 15 (dk_at dksX5_rathers_2 3 rfl rfl)
theorem dX5_rathers_52 : decode cX5_rathers 52 = .ok (.iload_n 2, 1) := dk_28 (dk_at dksX5_rathers_2 6 rfl rfl)
theorem dX5_rathers_53 : decode cX5_rathers 53 = .ok (.iaload, 1) := dk_46 (dk_at dksX5_rathers_2 7 rfl rfl)
theorem dX5_rathers_54 : decode cX5_rathers 54 = .ok (.invokevirtual 61, 3) := dk_182 0 61 (dk_at dksX5_rathers_2 8 rfl rfl)
theorem dX5_rathers_57 : decode cX5_rathers 57 = .ok (.ifCond .eq 22, 3) := dk_153 0 22 (dk_at dksX5_rathers_2 11 rfl rfl)
theorem dX5_rathers_60 : decode cX5_rathers 60 = .ok (.aload_n 0, 1) := dk_42 (dk_at dksX5_rathers_2 14 rfl rfl)
theorem dX5_rathers_61 : decode cX5_rathers 61 = .ok (.iload_n 3, 1) := dk_29 (dk_at dksX5_rathers_2 15 rfl rfl)
theorem dX5_rathers_62 : decode cX5_rathers 62 = .ok (.iload_n 2, 1) := dk_28 (dk_at dksX5_rathers_2 16 rfl rfl)
theorem dX5_rathers_63 : decode cX5_rathers 63 = .ok (.aload_n 0, 1) := dk_42 (dk_at dksX5_rathers_2 17 rfl rfl)
theorem dX5_rathers_64 : decode cX5_rathers 64 = .ok (.getfield 19, 3) := dk_180 0 19 (dk_at dksX5_rathers_2 18 rfl rfl)
theorem dX5_rathers_67 : decode cX5_rathers 67 = .ok (.iload_n 3, 1) := dk_29 (dk_at dksX5_rathers_2 21 rfl rfl)
theorem dX5_rathers_68 : decode cX5_rathers 68 = .ok (.iaload, 1) := dk_46 (dk_at dksX5_rathers_2 22 rfl rfl)
theorem dX5_rathers_69 : decode cX5_rathers 69 = .ok (.invokevirtual 68, 3) := dk_182 0 68 (dk_at dksX5_rathers_3 0 rfl rfl)
theorem dX5_rathers_72 : decode cX5_rathers 72 = .ok (.ifCond .eq 7, 3) := dk_153 0 7 (dk_at dksX5_rathers_3 3 rfl rfl)
theorem dX5_rathers_75 : decode cX5_rathers 75 = .ok (.iconst 1, 1) := dk_4 (dk_at dksX5_rathers_3 6 rfl rfl)
theorem dX5_rathers_76 : decode cX5_rathers 76 = .ok (.goto 4, 3) := dk_167 0 4 (dk_at dksX5_rathers_3 7 rfl rfl)
theorem dX5_rathers_79 : decode cX5_rathers 79 = .ok (.iconst 0, 1) := dk_3 (dk_at dksX5_rathers_3 10 rfl rfl)
theorem dX5_rathers_80 : decode cX5_rathers 80 = .ok (.iadd, 1) := dk_96 (dk_at dksX5_rathers_3 11 rfl rfl)
theorem dX5_rathers_81 : decode cX5_rathers 81 = .ok (.istore_n 1, 1) := dk_60 (dk_at dksX5_rathers_3 12 rfl rfl)
theorem dX5_rathers_82 : decode cX5_rathers 82 = .ok (.iinc 3 1, 3) := dk_132 3 1 (dk_at dksX5_rathers_3 13 rfl rfl)
theorem dX5_rathers_85 : decode cX5_rathers 85 = .ok (.goto (-65), 3) := dk_167 255 191 (dk_at dksX5_rathers_3 16 rfl rfl)
theorem dX5_rathers_88 : decode cX5_rathers 88 = .ok (.iinc 2 1, 3) := dk_132 2 1 (dk_at dksX5_rathers_3 19 rfl rfl)
theorem dX5_rathers_91 : decode cX5_rathers 91 = .ok (.goto (-87), 3) := dk_167 255 169 (dk_at dksX5_rathers_4 0 rfl rfl)
theorem dX5_rathers_94 : decode cX5_rathers 94 = .ok (.iload_n 1, 1) := dk_27 (dk_at dksX5_rathers_4 3 rfl rfl)
theorem dX5_rathers_95 : decode cX5_rathers 95 = .ok (.ireturn, 1) := dk_172 (dk_at dksX5_rathers_4 4 rfl rfl)
abbrev cX5_isBetween : ByteArray := prog_9_method_13_code
def yX5_isBetween : MethodName := ⟨RX5, "isBetween", "(II)Z"⟩
def dkwX5_isBetween_2 : List UInt8 := [182, 0, 61, 153, 0, 7, 4, 167, 0, 4, 3, 172]
abbrev dktX5_isBetween_2 : List UInt8 := dkwX5_isBetween_2 ++ []
def dkwX5_isBetween_1 : List UInt8 := [153, 0, 32, 28, 42, 180, 0, 28, 27, 46, 159, 0, 18, 42, 27, 28, 42, 180, 0, 28, 27, 46]
abbrev dktX5_isBetween_1 : List UInt8 := dkwX5_isBetween_1 ++ dktX5_isBetween_2
def dkwX5_isBetween_0 : List UInt8 := [28, 42, 180, 0, 25, 27, 46, 159, 0, 18, 42, 27, 42, 180, 0, 25, 27, 46, 28, 182, 0, 61]
abbrev dktX5_isBetween_0 : List UInt8 := dkwX5_isBetween_0 ++ dktX5_isBetween_1
theorem dksX5_isBetween_0 : cX5_isBetween.data.toList.drop 0 = dktX5_isBetween_0 := by decide +kernel
theorem dksX5_isBetween_1 : cX5_isBetween.data.toList.drop 22 = dktX5_isBetween_1 := dk_seg dksX5_isBetween_0 22 rfl rfl
theorem dksX5_isBetween_2 : cX5_isBetween.data.toList.drop 44 = dktX5_isBetween_2 := dk_seg dksX5_isBetween_1 22 rfl rfl
theorem dX5_isBetween_0 : decode cX5_isBetween 0 = .ok (.iload_n 2, 1) := dk_28 (dk_at dksX5_isBetween_0 0 rfl rfl)
theorem dX5_isBetween_1 : decode cX5_isBetween 1 = .ok (.aload_n 0, 1) := dk_42 (dk_at dksX5_isBetween_0 1 rfl rfl)
theorem dX5_isBetween_2 : decode cX5_isBetween 2 = .ok (.getfield 25, 3) := dk_180 0 25 (dk_at dksX5_isBetween_0 2 rfl rfl)
theorem dX5_isBetween_5 : decode cX5_isBetween 5 = .ok (.iload_n 1, 1) := dk_27 (dk_at dksX5_isBetween_0 5 rfl rfl)
theorem dX5_isBetween_6 : decode cX5_isBetween 6 = .ok (.iaload, 1) := dk_46 (dk_at dksX5_isBetween_0 6 rfl rfl)
theorem dX5_isBetween_7 : decode cX5_isBetween 7 = .ok (.if_icmp .eq 18, 3) := dk_159 0 18 (dk_at dksX5_isBetween_0 7 rfl rfl)
theorem dX5_isBetween_10 : decode cX5_isBetween 10 = .ok (.aload_n 0, 1) := dk_42 (dk_at dksX5_isBetween_0 10 rfl rfl)
theorem dX5_isBetween_11 : decode cX5_isBetween 11 = .ok (.iload_n 1, 1) := dk_27 (dk_at dksX5_isBetween_0 11 rfl rfl)
theorem dX5_isBetween_12 : decode cX5_isBetween 12 = .ok (.aload_n 0, 1) := dk_42 (dk_at dksX5_isBetween_0 12 rfl rfl)
theorem dX5_isBetween_13 : decode cX5_isBetween 13 = .ok (.getfield 25, 3) := dk_180 0 25 (dk_at dksX5_isBetween_0 13 rfl rfl)
theorem dX5_isBetween_16 : decode cX5_isBetween 16 = .ok (.iload_n 1, 1) := dk_27 (dk_at dksX5_isBetween_0 16 rfl rfl)
theorem dX5_isBetween_17 : decode cX5_isBetween 17 = .ok (.iaload, 1) := dk_46 (dk_at dksX5_isBetween_0 17 rfl rfl)
theorem dX5_isBetween_18 : decode cX5_isBetween 18 = .ok (.iload_n 2, 1) := dk_28 (dk_at dksX5_isBetween_0 18 rfl rfl)
theorem dX5_isBetween_19 : decode cX5_isBetween 19 = .ok (.invokevirtual 61, 3) := dk_182 0 61 (dk_at dksX5_isBetween_0 19 rfl rfl)
theorem dX5_isBetween_22 : decode cX5_isBetween 22 = .ok (.ifCond .eq 32, 3) := dk_153 0 32 (dk_at dksX5_isBetween_1 0 rfl rfl)
theorem dX5_isBetween_25 : decode cX5_isBetween 25 = .ok (.iload_n 2, 1) := dk_28 (dk_at dksX5_isBetween_1 3 rfl rfl)
theorem dX5_isBetween_26 : decode cX5_isBetween 26 = .ok (.aload_n 0, 1) := dk_42 (dk_at dksX5_isBetween_1 4 rfl rfl)
theorem dX5_isBetween_27 : decode cX5_isBetween 27 = .ok (.getfield 28, 3) := dk_180 0 28 (dk_at dksX5_isBetween_1 5 rfl rfl)
theorem dX5_isBetween_30 : decode cX5_isBetween 30 = .ok (.iload_n 1, 1) := dk_27 (dk_at dksX5_isBetween_1 8 rfl rfl)
theorem dX5_isBetween_31 : decode cX5_isBetween 31 = .ok (.iaload, 1) := dk_46 (dk_at dksX5_isBetween_1 9 rfl rfl)
theorem dX5_isBetween_32 : decode cX5_isBetween 32 = .ok (.if_icmp .eq 18, 3) := dk_159 0 18 (dk_at dksX5_isBetween_1 10 rfl rfl)
theorem dX5_isBetween_35 : decode cX5_isBetween 35 = .ok (.aload_n 0, 1) := dk_42 (dk_at dksX5_isBetween_1 13 rfl rfl)
theorem dX5_isBetween_36 : decode cX5_isBetween 36 = .ok (.iload_n 1, 1) := dk_27 (dk_at dksX5_isBetween_1 14 rfl rfl)
theorem dX5_isBetween_37 : decode cX5_isBetween 37 = .ok (.iload_n 2, 1) := dk_28 (dk_at dksX5_isBetween_1 15 rfl rfl)
theorem dX5_isBetween_38 : decode cX5_isBetween 38 = .ok (.aload_n 0, 1) := dk_42 (dk_at dksX5_isBetween_1 16 rfl rfl)
theorem dX5_isBetween_39 : decode cX5_isBetween 39 = .ok (.getfield 28, 3) := dk_180 0 28 (dk_at dksX5_isBetween_1 17 rfl rfl)
theorem dX5_isBetween_42 : decode cX5_isBetween 42 = .ok (.iload_n 1, 1) := dk_27 (dk_at dksX5_isBetween_1 20 rfl rfl)
theorem dX5_isBetween_43 : decode cX5_isBetween 43 = .ok (.iaload, 1) := dk_46 (dk_at dksX5_isBetween_1 21 rfl rfl)
theorem dX5_isBetween_44 : decode cX5_isBetween 44 = .ok (.invokevirtual 61, 3) := dk_182 0 61 (dk_at dksX5_isBetween_2 0 rfl rfl)
theorem dX5_isBetween_47 : decode cX5_isBetween 47 = .ok (.ifCond .eq 7, 3) := dk_153 0 7 (dk_at dksX5_isBetween_2 3 rfl rfl)
theorem dX5_isBetween_50 : decode cX5_isBetween 50 = .ok (.iconst 1, 1) := dk_4 (dk_at dksX5_isBetween_2 6 rfl rfl)
theorem dX5_isBetween_51 : decode cX5_isBetween 51 = .ok (.goto 4, 3) := dk_167 0 4 (dk_at dksX5_isBetween_2 7 rfl rfl)
theorem dX5_isBetween_54 : decode cX5_isBetween 54 = .ok (.iconst 0, 1) := dk_3 (dk_at dksX5_isBetween_2 10 rfl rfl)
theorem dX5_isBetween_55 : decode cX5_isBetween 55 = .ok (.ireturn, 1) := dk_172 (dk_at dksX5_isBetween_2 11 rfl rfl)
theorem q151 : (Jvm.Cond.initialized "VisitingHours$Pairs") ∈ lw_all := lw_g (lw_at lw_m1 8 rfl) rfl
theorem q206 : (Jvm.Cond.fieldLinkNest "VisitingHours$Pairs" (65 : Nat) "VisitingHours$World" "hosts" "I" "VisitingHours") ∈ lw_tbl := lw_at lw_m1 63 rfl
theorem q209 : (Jvm.Cond.fieldLinkNest "VisitingHours$Pairs" (54 : Nat) "VisitingHours$World" "guests" "I" "VisitingHours") ∈ lw_tbl := lw_at lw_m1 66 rfl
theorem q238 : (Jvm.Cond.fieldLinkNest "VisitingHours$Pairs" (41 : Nat) "VisitingHours$World" "likes" "[[I" "VisitingHours") ∈ lw_tbl := lw_at lw_m1 95 rfl
theorem q241 : (Jvm.Cond.fieldLinkNest "VisitingHours$Pairs" (45 : Nat) "VisitingHours$World" "loves" "[[I" "VisitingHours") ∈ lw_tbl := lw_at lw_m1 98 rfl
theorem q403 : (Jvm.Cond.instantiable "VisitingHours$Pairs" (7 : Nat)) ∈ lw_all := lw_g (lw_at lw_m2 20 rfl) rfl
theorem q405 : (Jvm.Cond.instanceMethod ({ cls := "VisitingHours$Pairs", name := "<init>", desc := "(LVisitingHours;)V" } : Jvm.MethodName)) ∈ lw_all := lw_g (lw_at lw_m2 22 rfl) rfl
theorem q406 : (Jvm.Cond.code ({ cls := "VisitingHours$Pairs", name := "<init>", desc := "(LVisitingHours;)V" } : Jvm.MethodName) prog_9_method_1_code (2 : Nat) (Option.none : Option Jvm.ClassFile.FieldType)) ∈ lw_all := lw_g (lw_at lw_m2 23 rfl) rfl
theorem q407 : (Jvm.Cond.methodLink "VisitingHours$Pairs" (9 : Nat) ({ cls := "java/lang/Object", name := "<init>", desc := "()V" } : Jvm.MethodName)) ∈ lw_all := lw_g (lw_at lw_m2 24 rfl) rfl
theorem q408 : (Jvm.Cond.fieldLink "VisitingHours$Pairs" (15 : Nat) "VisitingHours$Pairs" "guestOf" "[I") ∈ lw_all := lw_g (lw_at lw_m2 25 rfl) rfl
theorem q410 : (Jvm.Cond.fieldLink "VisitingHours$Pairs" (19 : Nat) "VisitingHours$Pairs" "hostOf" "[I") ∈ lw_all := lw_g (lw_at lw_m2 27 rfl) rfl
theorem q412 : (Jvm.Cond.fieldLink "VisitingHours$Pairs" (22 : Nat) "VisitingHours$Pairs" "next" "[I") ∈ lw_all := lw_g (lw_at lw_m2 29 rfl) rfl
theorem q413 : (Jvm.Cond.fieldLink "VisitingHours$Pairs" (25 : Nat) "VisitingHours$Pairs" "best" "[I") ∈ lw_all := lw_g (lw_at lw_m2 30 rfl) rfl
theorem q414 : (Jvm.Cond.fieldLink "VisitingHours$Pairs" (28 : Nat) "VisitingHours$Pairs" "worst" "[I") ∈ lw_all := lw_g (lw_at lw_m2 31 rfl) rfl
theorem q415 : (Jvm.Cond.fieldLink "VisitingHours$Pairs" (101 : Nat) "VisitingHours$Pairs" "ways" "I") ∈ lw_all := lw_g (lw_at lw_m2 32 rfl) rfl
theorem q416 : (Jvm.Cond.fieldLink "VisitingHours$Pairs" (3 : Nat) "VisitingHours$Pairs" "this$0" "LVisitingHours;") ∈ lw_all := lw_g (lw_at lw_m2 33 rfl) rfl
theorem q417 : (Jvm.Cond.laysFinal "VisitingHours$Pairs" "VisitingHours$Pairs" "guestOf" "[I") ∈ lw_all := lw_g (lw_at lw_m2 34 rfl) rfl
theorem q418 : (Jvm.Cond.soleField "VisitingHours$Pairs" "guestOf") ∈ lw_all := lw_g (lw_at lw_m2 35 rfl) rfl
theorem q419 : (Jvm.Cond.laysFinal "VisitingHours$Pairs" "VisitingHours$Pairs" "hostOf" "[I") ∈ lw_all := lw_g (lw_at lw_m2 36 rfl) rfl
theorem q420 : (Jvm.Cond.soleField "VisitingHours$Pairs" "hostOf") ∈ lw_all := lw_g (lw_at lw_m2 37 rfl) rfl
theorem q421 : (Jvm.Cond.laysFinal "VisitingHours$Pairs" "VisitingHours$Pairs" "next" "[I") ∈ lw_all := lw_g (lw_at lw_m2 38 rfl) rfl
theorem q422 : (Jvm.Cond.soleField "VisitingHours$Pairs" "next") ∈ lw_all := lw_g (lw_at lw_m2 39 rfl) rfl
theorem q423 : (Jvm.Cond.laysFinal "VisitingHours$Pairs" "VisitingHours$Pairs" "best" "[I") ∈ lw_all := lw_g (lw_at lw_m2 40 rfl) rfl
theorem q424 : (Jvm.Cond.soleField "VisitingHours$Pairs" "best") ∈ lw_all := lw_g (lw_at lw_m2 41 rfl) rfl
theorem q425 : (Jvm.Cond.laysFinal "VisitingHours$Pairs" "VisitingHours$Pairs" "worst" "[I") ∈ lw_all := lw_g (lw_at lw_m2 42 rfl) rfl
theorem q426 : (Jvm.Cond.soleField "VisitingHours$Pairs" "worst") ∈ lw_all := lw_g (lw_at lw_m2 43 rfl) rfl
theorem q427 : (Jvm.Cond.lays "VisitingHours$Pairs" "VisitingHours$Pairs" "ways" "I") ∈ lw_all := lw_g (lw_at lw_m2 44 rfl) rfl
theorem q428 : (Jvm.Cond.soleField "VisitingHours$Pairs" "ways") ∈ lw_all := lw_g (lw_at lw_m2 45 rfl) rfl
theorem q429 : (Jvm.Cond.laysFinal "VisitingHours$Pairs" "VisitingHours$Pairs" "this$0" "LVisitingHours;") ∈ lw_all := lw_g (lw_at lw_m2 46 rfl) rfl
theorem q430 : (Jvm.Cond.soleField "VisitingHours$Pairs" "this$0") ∈ lw_all := lw_g (lw_at lw_m2 47 rfl) rfl
theorem q431 : (Jvm.Cond.superclass "VisitingHours$Pairs" "java/lang/Object") ∈ lw_all := lw_g (lw_at lw_m2 48 rfl) rfl
theorem q433 : (Jvm.Cond.fieldLinkNest "VisitingHours$Pairs" (31 : Nat) "VisitingHours" "world" "LVisitingHours$World;" "VisitingHours") ∈ lw_tbl := lw_at lw_m2 50 rfl
theorem q649 : (Jvm.Cond.instanceMethod ({ cls := "VisitingHours$Pairs", name := "allWays", desc := "()I" } : Jvm.MethodName)) ∈ lw_all := lw_g (lw_at lw_m3 26 rfl) rfl
theorem q650 : (Jvm.Cond.selects "VisitingHours$Pairs" ({ cls := "VisitingHours$Pairs", name := "allWays", desc := "()I" } : Jvm.MethodName) ({ cls := "VisitingHours$Pairs", name := "allWays", desc := "()I" } : Jvm.MethodName)) ∈ lw_all := lw_g (lw_at lw_m3 27 rfl) rfl
theorem q651 : (Jvm.Cond.code ({ cls := "VisitingHours$Pairs", name := "allWays", desc := "()I" } : Jvm.MethodName) prog_9_method_12_code (1 : Nat) (Option.some Jvm.ClassFile.FieldType.int)) ∈ lw_all := lw_g (lw_at lw_m3 28 rfl) rfl
theorem q652 : (Jvm.Cond.methodLink "VisitingHours$Pairs" (88 : Nat) ({ cls := "VisitingHours$Pairs", name := "byHosts", desc := "()LVisitingHours$Pairs;" } : Jvm.MethodName)) ∈ lw_all := lw_g (lw_at lw_m3 29 rfl) rfl
theorem q653 : (Jvm.Cond.instanceMethod ({ cls := "VisitingHours$Pairs", name := "byHosts", desc := "()LVisitingHours$Pairs;" } : Jvm.MethodName)) ∈ lw_all := lw_g (lw_at lw_m3 30 rfl) rfl
theorem q654 : (Jvm.Cond.selects "VisitingHours$Pairs" ({ cls := "VisitingHours$Pairs", name := "byHosts", desc := "()LVisitingHours$Pairs;" } : Jvm.MethodName) ({ cls := "VisitingHours$Pairs", name := "byHosts", desc := "()LVisitingHours$Pairs;" } : Jvm.MethodName)) ∈ lw_all := lw_g (lw_at lw_m3 31 rfl) rfl
theorem q655 : (Jvm.Cond.code ({ cls := "VisitingHours$Pairs", name := "byHosts", desc := "()LVisitingHours$Pairs;" } : Jvm.MethodName) prog_9_method_7_code (3 : Nat) (Option.some (Jvm.ClassFile.FieldType.object "VisitingHours$Pairs"))) ∈ lw_all := lw_g (lw_at lw_m3 32 rfl) rfl
theorem q656 : (Jvm.Cond.methodLink "VisitingHours$Pairs" (71 : Nat) ({ cls := "VisitingHours$Pairs", name := "clears", desc := "()V" } : Jvm.MethodName)) ∈ lw_all := lw_g (lw_at lw_m3 33 rfl) rfl
theorem q657 : (Jvm.Cond.instanceMethod ({ cls := "VisitingHours$Pairs", name := "clears", desc := "()V" } : Jvm.MethodName)) ∈ lw_all := lw_g (lw_at lw_m3 34 rfl) rfl
theorem q658 : (Jvm.Cond.selects "VisitingHours$Pairs" ({ cls := "VisitingHours$Pairs", name := "clears", desc := "()V" } : Jvm.MethodName) ({ cls := "VisitingHours$Pairs", name := "clears", desc := "()V" } : Jvm.MethodName)) ∈ lw_all := lw_g (lw_at lw_m3 35 rfl) rfl
theorem q659 : (Jvm.Cond.code ({ cls := "VisitingHours$Pairs", name := "clears", desc := "()V" } : Jvm.MethodName) prog_9_method_4_code (1 : Nat) (Option.none : Option Jvm.ClassFile.FieldType)) ∈ lw_all := lw_g (lw_at lw_m3 36 rfl) rfl
theorem q660 : (Jvm.Cond.methodLink "VisitingHours$Pairs" (48 : Nat) ({ cls := "java/util/Arrays", name := "fill", desc := "([II)V" } : Jvm.MethodName)) ∈ lw_all := lw_g (lw_at lw_m3 37 rfl) rfl
theorem q663 : (Jvm.Cond.methodLink "VisitingHours$Pairs" (74 : Nat) ({ cls := "VisitingHours$Pairs", name := "hostAsks", desc := "(I)V" } : Jvm.MethodName)) ∈ lw_all := lw_g (lw_at lw_m3 40 rfl) rfl
theorem q664 : (Jvm.Cond.privateMethod ({ cls := "VisitingHours$Pairs", name := "hostAsks", desc := "(I)V" } : Jvm.MethodName)) ∈ lw_tbl := lw_at lw_m3 41 rfl
theorem q665 : (Jvm.Cond.instanceMethod ({ cls := "VisitingHours$Pairs", name := "hostAsks", desc := "(I)V" } : Jvm.MethodName)) ∈ lw_all := lw_g (lw_at lw_m3 42 rfl) rfl
theorem q666 : (Jvm.Cond.code ({ cls := "VisitingHours$Pairs", name := "hostAsks", desc := "(I)V" } : Jvm.MethodName) prog_9_method_8_code (4 : Nat) (Option.none : Option Jvm.ClassFile.FieldType)) ∈ lw_all := lw_g (lw_at lw_m3 43 rfl) rfl
theorem q667 : (Jvm.Cond.methodLink "VisitingHours$Pairs" (78 : Nat) ({ cls := "VisitingHours$Pairs", name := "bestGuest", desc := "(II)I" } : Jvm.MethodName)) ∈ lw_all := lw_g (lw_at lw_m3 44 rfl) rfl
theorem q668 : (Jvm.Cond.privateMethod ({ cls := "VisitingHours$Pairs", name := "bestGuest", desc := "(II)I" } : Jvm.MethodName)) ∈ lw_tbl := lw_at lw_m3 45 rfl
theorem q669 : (Jvm.Cond.instanceMethod ({ cls := "VisitingHours$Pairs", name := "bestGuest", desc := "(II)I" } : Jvm.MethodName)) ∈ lw_all := lw_g (lw_at lw_m3 46 rfl) rfl
theorem q670 : (Jvm.Cond.code ({ cls := "VisitingHours$Pairs", name := "bestGuest", desc := "(II)I" } : Jvm.MethodName) prog_9_method_5_code (5 : Nat) (Option.some Jvm.ClassFile.FieldType.int)) ∈ lw_all := lw_g (lw_at lw_m3 47 rfl) rfl
theorem q671 : (Jvm.Cond.methodLinkNest "VisitingHours$Pairs" (58 : Nat) ({ cls := "VisitingHours", name := "has", desc := "(II)Z" } : Jvm.MethodName) "VisitingHours") ∈ lw_tbl := lw_at lw_m3 48 rfl
theorem q672 : (Jvm.Cond.methodLink "VisitingHours$Pairs" (61 : Nat) ({ cls := "VisitingHours$Pairs", name := "hostRather", desc := "(III)Z" } : Jvm.MethodName)) ∈ lw_all := lw_g (lw_at lw_m3 49 rfl) rfl
theorem q673 : (Jvm.Cond.privateMethod ({ cls := "VisitingHours$Pairs", name := "hostRather", desc := "(III)Z" } : Jvm.MethodName)) ∈ lw_tbl := lw_at lw_m3 50 rfl
theorem q674 : (Jvm.Cond.instanceMethod ({ cls := "VisitingHours$Pairs", name := "hostRather", desc := "(III)Z" } : Jvm.MethodName)) ∈ lw_all := lw_g (lw_at lw_m3 51 rfl) rfl
theorem q675 : (Jvm.Cond.code ({ cls := "VisitingHours$Pairs", name := "hostRather", desc := "(III)Z" } : Jvm.MethodName) prog_9_method_2_code (4 : Nat) (Option.some Jvm.ClassFile.FieldType.boolean)) ∈ lw_all := lw_g (lw_at lw_m3 52 rfl) rfl
theorem q676 : (Jvm.Cond.methodLink "VisitingHours$Pairs" (35 : Nat) ({ cls := "VisitingHours$World", name := "both", desc := "(II)Z" } : Jvm.MethodName)) ∈ lw_all := lw_g (lw_at lw_m3 53 rfl) rfl
theorem q677 : (Jvm.Cond.methodLink "VisitingHours$Pairs" (68 : Nat) ({ cls := "VisitingHours$Pairs", name := "guestRather", desc := "(III)Z" } : Jvm.MethodName)) ∈ lw_all := lw_g (lw_at lw_m3 54 rfl) rfl
theorem q678 : (Jvm.Cond.privateMethod ({ cls := "VisitingHours$Pairs", name := "guestRather", desc := "(III)Z" } : Jvm.MethodName)) ∈ lw_tbl := lw_at lw_m3 55 rfl
theorem q679 : (Jvm.Cond.instanceMethod ({ cls := "VisitingHours$Pairs", name := "guestRather", desc := "(III)Z" } : Jvm.MethodName)) ∈ lw_all := lw_g (lw_at lw_m3 56 rfl) rfl
theorem q680 : (Jvm.Cond.code ({ cls := "VisitingHours$Pairs", name := "guestRather", desc := "(III)Z" } : Jvm.MethodName) prog_9_method_3_code (4 : Nat) (Option.some Jvm.ClassFile.FieldType.boolean)) ∈ lw_all := lw_g (lw_at lw_m3 57 rfl) rfl
theorem q681 : (Jvm.Cond.methodLink "VisitingHours$Pairs" (92 : Nat) ({ cls := "java/lang/System", name := "arraycopy", desc := "(Ljava/lang/Object;ILjava/lang/Object;II)V" } : Jvm.MethodName)) ∈ lw_all := lw_g (lw_at lw_m3 58 rfl) rfl
theorem q684 : (Jvm.Cond.methodLink "VisitingHours$Pairs" (98 : Nat) ({ cls := "VisitingHours$Pairs", name := "byGuests", desc := "()LVisitingHours$Pairs;" } : Jvm.MethodName)) ∈ lw_all := lw_g (lw_at lw_m3 61 rfl) rfl
theorem q685 : (Jvm.Cond.instanceMethod ({ cls := "VisitingHours$Pairs", name := "byGuests", desc := "()LVisitingHours$Pairs;" } : Jvm.MethodName)) ∈ lw_all := lw_g (lw_at lw_m3 62 rfl) rfl
theorem q686 : (Jvm.Cond.selects "VisitingHours$Pairs" ({ cls := "VisitingHours$Pairs", name := "byGuests", desc := "()LVisitingHours$Pairs;" } : Jvm.MethodName) ({ cls := "VisitingHours$Pairs", name := "byGuests", desc := "()LVisitingHours$Pairs;" } : Jvm.MethodName)) ∈ lw_all := lw_g (lw_at lw_m3 63 rfl) rfl
theorem q687 : (Jvm.Cond.code ({ cls := "VisitingHours$Pairs", name := "byGuests", desc := "()LVisitingHours$Pairs;" } : Jvm.MethodName) prog_9_method_9_code (3 : Nat) (Option.some (Jvm.ClassFile.FieldType.object "VisitingHours$Pairs"))) ∈ lw_all := lw_g (lw_at lw_m3 64 rfl) rfl
theorem q688 : (Jvm.Cond.methodLink "VisitingHours$Pairs" (82 : Nat) ({ cls := "VisitingHours$Pairs", name := "guestAsks", desc := "(I)V" } : Jvm.MethodName)) ∈ lw_all := lw_g (lw_at lw_m3 65 rfl) rfl
theorem q689 : (Jvm.Cond.privateMethod ({ cls := "VisitingHours$Pairs", name := "guestAsks", desc := "(I)V" } : Jvm.MethodName)) ∈ lw_tbl := lw_at lw_m3 66 rfl
theorem q690 : (Jvm.Cond.instanceMethod ({ cls := "VisitingHours$Pairs", name := "guestAsks", desc := "(I)V" } : Jvm.MethodName)) ∈ lw_all := lw_g (lw_at lw_m3 67 rfl) rfl
theorem q691 : (Jvm.Cond.code ({ cls := "VisitingHours$Pairs", name := "guestAsks", desc := "(I)V" } : Jvm.MethodName) prog_9_method_10_code (4 : Nat) (Option.none : Option Jvm.ClassFile.FieldType)) ∈ lw_all := lw_g (lw_at lw_m3 68 rfl) rfl
theorem q692 : (Jvm.Cond.methodLink "VisitingHours$Pairs" (85 : Nat) ({ cls := "VisitingHours$Pairs", name := "bestHost", desc := "(II)I" } : Jvm.MethodName)) ∈ lw_all := lw_g (lw_at lw_m3 69 rfl) rfl
theorem q693 : (Jvm.Cond.privateMethod ({ cls := "VisitingHours$Pairs", name := "bestHost", desc := "(II)I" } : Jvm.MethodName)) ∈ lw_tbl := lw_at lw_m3 70 rfl
theorem q694 : (Jvm.Cond.instanceMethod ({ cls := "VisitingHours$Pairs", name := "bestHost", desc := "(II)I" } : Jvm.MethodName)) ∈ lw_all := lw_g (lw_at lw_m3 71 rfl) rfl
theorem q695 : (Jvm.Cond.code ({ cls := "VisitingHours$Pairs", name := "bestHost", desc := "(II)I" } : Jvm.MethodName) prog_9_method_6_code (5 : Nat) (Option.some Jvm.ClassFile.FieldType.int)) ∈ lw_all := lw_g (lw_at lw_m3 72 rfl) rfl
theorem q696 : (Jvm.Cond.methodLink "VisitingHours$Pairs" (104 : Nat) ({ cls := "VisitingHours$Pairs", name := "looksOn", desc := "(I)V" } : Jvm.MethodName)) ∈ lw_all := lw_g (lw_at lw_m3 73 rfl) rfl
theorem q697 : (Jvm.Cond.privateMethod ({ cls := "VisitingHours$Pairs", name := "looksOn", desc := "(I)V" } : Jvm.MethodName)) ∈ lw_tbl := lw_at lw_m3 74 rfl
theorem q698 : (Jvm.Cond.instanceMethod ({ cls := "VisitingHours$Pairs", name := "looksOn", desc := "(I)V" } : Jvm.MethodName)) ∈ lw_all := lw_g (lw_at lw_m3 75 rfl) rfl
theorem q699 : (Jvm.Cond.code ({ cls := "VisitingHours$Pairs", name := "looksOn", desc := "(I)V" } : Jvm.MethodName) prog_9_method_14_code (3 : Nat) (Option.none : Option Jvm.ClassFile.FieldType)) ∈ lw_all := lw_g (lw_at lw_m3 76 rfl) rfl
theorem q700 : (Jvm.Cond.methodLink "VisitingHours$Pairs" (107 : Nat) ({ cls := "VisitingHours$Pairs", name := "rathers", desc := "()I" } : Jvm.MethodName)) ∈ lw_all := lw_g (lw_at lw_m3 77 rfl) rfl
theorem q701 : (Jvm.Cond.instanceMethod ({ cls := "VisitingHours$Pairs", name := "rathers", desc := "()I" } : Jvm.MethodName)) ∈ lw_all := lw_g (lw_at lw_m3 78 rfl) rfl
theorem q702 : (Jvm.Cond.selects "VisitingHours$Pairs" ({ cls := "VisitingHours$Pairs", name := "rathers", desc := "()I" } : Jvm.MethodName) ({ cls := "VisitingHours$Pairs", name := "rathers", desc := "()I" } : Jvm.MethodName)) ∈ lw_all := lw_g (lw_at lw_m3 79 rfl) rfl
theorem q703 : (Jvm.Cond.code ({ cls := "VisitingHours$Pairs", name := "rathers", desc := "()I" } : Jvm.MethodName) prog_9_method_11_code (4 : Nat) (Option.some Jvm.ClassFile.FieldType.int)) ∈ lw_all := lw_g (lw_at lw_m3 80 rfl) rfl
theorem q704 : (Jvm.Cond.methodLink "VisitingHours$Pairs" (111 : Nat) ({ cls := "VisitingHours$Pairs", name := "isBetween", desc := "(II)Z" } : Jvm.MethodName)) ∈ lw_all := lw_g (lw_at lw_m3 81 rfl) rfl
theorem q705 : (Jvm.Cond.privateMethod ({ cls := "VisitingHours$Pairs", name := "isBetween", desc := "(II)Z" } : Jvm.MethodName)) ∈ lw_tbl := lw_at lw_m3 82 rfl
theorem q706 : (Jvm.Cond.instanceMethod ({ cls := "VisitingHours$Pairs", name := "isBetween", desc := "(II)Z" } : Jvm.MethodName)) ∈ lw_all := lw_g (lw_at lw_m3 83 rfl) rfl
theorem q707 : (Jvm.Cond.code ({ cls := "VisitingHours$Pairs", name := "isBetween", desc := "(II)Z" } : Jvm.MethodName) prog_9_method_13_code (3 : Nat) (Option.some Jvm.ClassFile.FieldType.boolean)) ∈ lw_all := lw_g (lw_at lw_m3 84 rfl) rfl
theorem q1574 : (Jvm.Cond.selects "VisitingHours$Pairs" ({ cls := "java/lang/Object", name := "getClass", desc := "()Ljava/lang/Class;" } : Jvm.MethodName) ({ cls := "java/lang/Object", name := "getClass", desc := "()Ljava/lang/Class;" } : Jvm.MethodName)) ∈ lw_all := lw_g (lw_at lw_m6 231 rfl) rfl
theorem q2807 : (Jvm.Cond.castable "VisitingHours$Pairs" "java/lang/Object") ∈ lw_tbl := lw_at lw_m12 24 rfl
theorem in_X5 : ∀ w ∈ wsX50, w ∈ lw_all := lw_in wsX50 [417, 419, 421, 423, 425, 427, 429] (by decide +kernel) (by decide +kernel)
/-! VisitingHours$Wrong -/
set_option maxRecDepth 100000
def RX7 : String := "VisitingHours$Wrong"
def TX7 : u_T := fun k => match k with
  | 0 => ("java/lang/Throwable", "cause", "Ljava/lang/Throwable;", false)
  | 1 => ("java/lang/Throwable", "stackTrace", "[Ljava/lang/StackTraceElement;", false)
  | 2 => ("java/lang/Throwable", "suppressedExceptions", "Ljava/util/List;", false)
  | 3 => ("java/lang/Throwable", "detailMessage", "Ljava/lang/String;", false)
  | 4 => ("java/lang/Throwable", "backtrace", "Ljava/lang/Object;", false)
  | _ => ("java/lang/Throwable", "depth", "I", false)
def tyX7 : Nat → FieldType := fun k => match k with
  | 0 => .object "java/lang/Throwable"
  | 1 => .array (.object "java/lang/StackTraceElement")
  | 2 => .object "java/util/List"
  | 3 => .object "java/lang/String"
  | 4 => .object "java/lang/Object"
  | _ => .int
abbrev wsX70 : List Cond := u_ws RX7 TX7 6
theorem nmX7 : ∀ a, a < 6 → ∀ b, b < 6 → a ≠ b → (TX7 a).2.1 ≠ (TX7 b).2.1 := by decide +kernel
theorem tyX7_ok : ∀ k, k < 6 → parseFieldDescriptor (TX7 k).2.2.1 = some (tyX7 k) := by decide +kernel
abbrev cX7_init : ByteArray := prog_17_method_1_code
def yX7_init : MethodName := ⟨RX7, "<init>", "()V"⟩
def dkwX7_init_0 : List UInt8 := [42, 1, 1, 3, 3, 183, 0, 1, 177]
abbrev dktX7_init_0 : List UInt8 := dkwX7_init_0 ++ []
theorem dksX7_init_0 : cX7_init.data.toList.drop 0 = dktX7_init_0 := by decide +kernel
theorem dX7_init_0 : decode cX7_init 0 = .ok (.aload_n 0, 1) := dk_42 (dk_at dksX7_init_0 0 rfl rfl)
theorem dX7_init_1 : decode cX7_init 1 = .ok (.aconst_null, 1) := dk_1 (dk_at dksX7_init_0 1 rfl rfl)
theorem dX7_init_2 : decode cX7_init 2 = .ok (.aconst_null, 1) := dk_1 (dk_at dksX7_init_0 2 rfl rfl)
theorem dX7_init_3 : decode cX7_init 3 = .ok (.iconst 0, 1) := dk_3 (dk_at dksX7_init_0 3 rfl rfl)
theorem dX7_init_4 : decode cX7_init 4 = .ok (.iconst 0, 1) := dk_3 (dk_at dksX7_init_0 4 rfl rfl)
theorem dX7_init_5 : decode cX7_init 5 = .ok (.invokespecial 1, 3) := dk_183 0 1 (dk_at dksX7_init_0 5 rfl rfl)
theorem dX7_init_8 : decode cX7_init 8 = .ok (.return_, 1) := dk_177 (dk_at dksX7_init_0 8 rfl rfl)
theorem q169 : (Jvm.Cond.initialized "VisitingHours$Wrong") ∈ lw_all := lw_g (lw_at lw_m1 26 rfl) rfl
theorem q1034 : (Jvm.Cond.selects "VisitingHours$Wrong" ({ cls := "java/lang/Throwable", name := "fillInStackTrace", desc := "()Ljava/lang/Throwable;" } : Jvm.MethodName) ({ cls := "java/lang/Throwable", name := "fillInStackTrace", desc := "()Ljava/lang/Throwable;" } : Jvm.MethodName)) ∈ lw_all := lw_g (lw_at lw_m4 171 rfl) rfl
theorem q1178 : (Jvm.Cond.instantiable "VisitingHours$Wrong" (6 : Nat)) ∈ lw_all := lw_g (lw_at lw_m5 75 rfl) rfl
theorem q1179 : (Jvm.Cond.castable "VisitingHours$Wrong" "VisitingHours$Wrong") ∈ lw_tbl := lw_at lw_m5 76 rfl
theorem q1180 : (Jvm.Cond.selects "VisitingHours$Wrong" ({ cls := "java/lang/Throwable", name := "fillInStackTrace", desc := "(I)Ljava/lang/Throwable;" } : Jvm.MethodName) ({ cls := "java/lang/Throwable", name := "fillInStackTrace", desc := "(I)Ljava/lang/Throwable;" } : Jvm.MethodName)) ∈ lw_all := lw_g (lw_at lw_m5 77 rfl) rfl
theorem q1181 : (Jvm.Cond.lays "VisitingHours$Wrong" "java/lang/Throwable" "cause" "Ljava/lang/Throwable;") ∈ lw_all := lw_g (lw_at lw_m5 78 rfl) rfl
theorem q1182 : (Jvm.Cond.lays "VisitingHours$Wrong" "java/lang/Throwable" "stackTrace" "[Ljava/lang/StackTraceElement;") ∈ lw_all := lw_g (lw_at lw_m5 79 rfl) rfl
theorem q1183 : (Jvm.Cond.lays "VisitingHours$Wrong" "java/lang/Throwable" "suppressedExceptions" "Ljava/util/List;") ∈ lw_all := lw_g (lw_at lw_m5 80 rfl) rfl
theorem q1184 : (Jvm.Cond.lays "VisitingHours$Wrong" "java/lang/Throwable" "detailMessage" "Ljava/lang/String;") ∈ lw_all := lw_g (lw_at lw_m5 81 rfl) rfl
theorem q1185 : (Jvm.Cond.lays "VisitingHours$Wrong" "java/lang/Throwable" "backtrace" "Ljava/lang/Object;") ∈ lw_all := lw_g (lw_at lw_m5 82 rfl) rfl
theorem q1187 : (Jvm.Cond.instanceMethod ({ cls := "VisitingHours$Wrong", name := "<init>", desc := "()V" } : Jvm.MethodName)) ∈ lw_all := lw_g (lw_at lw_m5 84 rfl) rfl
theorem q1188 : (Jvm.Cond.code ({ cls := "VisitingHours$Wrong", name := "<init>", desc := "()V" } : Jvm.MethodName) prog_17_method_1_code (1 : Nat) (Option.none : Option Jvm.ClassFile.FieldType)) ∈ lw_all := lw_g (lw_at lw_m5 85 rfl) rfl
theorem q1189 : (Jvm.Cond.methodLink "VisitingHours$Wrong" (1 : Nat) ({ cls := "java/lang/Exception", name := "<init>", desc := "(Ljava/lang/String;Ljava/lang/Throwable;ZZ)V" } : Jvm.MethodName)) ∈ lw_all := lw_g (lw_at lw_m5 86 rfl) rfl
theorem q1195 : (Jvm.Cond.lays "VisitingHours$Wrong" "java/lang/Throwable" "depth" "I") ∈ lw_all := lw_g (lw_at lw_m5 92 rfl) rfl
theorem q1196 : (Jvm.Cond.superclass "VisitingHours$Wrong" "java/lang/Exception") ∈ lw_all := lw_g (lw_at lw_m5 93 rfl) rfl
theorem q1582 : (Jvm.Cond.selects "VisitingHours$Wrong" ({ cls := "java/lang/Object", name := "getClass", desc := "()Ljava/lang/Class;" } : Jvm.MethodName) ({ cls := "java/lang/Object", name := "getClass", desc := "()Ljava/lang/Class;" } : Jvm.MethodName)) ∈ lw_all := lw_g (lw_at lw_m6 239 rfl) rfl
theorem q2812 : (Jvm.Cond.castable "VisitingHours$Wrong" "java/lang/Object") ∈ lw_tbl := lw_at lw_m12 29 rfl
theorem in_X7 : ∀ w ∈ wsX70, w ∈ lw_all := lw_in wsX70 [1181, 1182, 1183, 1184, 1185, 1195] (by decide +kernel) (by decide +kernel)
/-! VisitingHours$Law -/
set_option maxRecDepth 100000
def RX8 : String := "VisitingHours$Law"
def TX8 : u_T := fun k => match k with
  | _ => ("VisitingHours$Law", "lines", "Ljava/util/ArrayList;", true)
def tyX8 : Nat → FieldType := fun k => match k with
  | _ => .object "java/util/ArrayList"
abbrev wsX80 : List Cond := u_ws RX8 TX8 1
theorem nmX8 : ∀ a, a < 1 → ∀ b, b < 1 → a ≠ b → (TX8 a).2.1 ≠ (TX8 b).2.1 := by decide +kernel
theorem tyX8_ok : ∀ k, k < 1 → parseFieldDescriptor (TX8 k).2.2.1 = some (tyX8 k) := by decide +kernel
abbrev cX8_admits : ByteArray := prog_5_method_3_code
def yX8_admits : MethodName := ⟨RX8, "admits", "(LVisitingHours$Scene;)Z"⟩
def dkwX8_admits_3 : List UInt8 := [153, 0, 7, 4, 167, 0, 4, 3, 172]
abbrev dktX8_admits_3 : List UInt8 := dkwX8_admits_3 ++ []
def dkwX8_admits_2 : List UInt8 := [182, 0, 41, 153, 0, 5, 4, 172, 4, 61, 132, 3, 1, 167, 255, 202, 28, 154, 0, 14, 43, 180, 0, 57]
abbrev dktX8_admits_2 : List UInt8 := dkwX8_admits_2 ++ dktX8_admits_3
def dkwX8_admits_1 : List UInt8 := [192, 0, 30, 58, 4, 25, 4, 180, 0, 32, 178, 0, 36, 165, 0, 6, 167, 0, 16, 25, 4, 43]
abbrev dktX8_admits_1 : List UInt8 := dkwX8_admits_1 ++ dktX8_admits_2
def dkwX8_admits_0 : List UInt8 := [3, 61, 3, 62, 29, 42, 180, 0, 10, 182, 0, 22, 162, 0, 49, 42, 180, 0, 10, 29, 182, 0, 26]
abbrev dktX8_admits_0 : List UInt8 := dkwX8_admits_0 ++ dktX8_admits_1
theorem dksX8_admits_0 : cX8_admits.data.toList.drop 0 = dktX8_admits_0 := by decide +kernel
theorem dksX8_admits_1 : cX8_admits.data.toList.drop 23 = dktX8_admits_1 := dk_seg dksX8_admits_0 23 rfl rfl
theorem dksX8_admits_2 : cX8_admits.data.toList.drop 45 = dktX8_admits_2 := dk_seg dksX8_admits_1 22 rfl rfl
theorem dksX8_admits_3 : cX8_admits.data.toList.drop 69 = dktX8_admits_3 := dk_seg dksX8_admits_2 24 rfl rfl
theorem dX8_admits_0 : decode cX8_admits 0 = .ok (.iconst 0, 1) := dk_3 (dk_at dksX8_admits_0 0 rfl rfl)
theorem dX8_admits_1 : decode cX8_admits 1 = .ok (.istore_n 2, 1) := dk_61 (dk_at dksX8_admits_0 1 rfl rfl)
theorem dX8_admits_2 : decode cX8_admits 2 = .ok (.iconst 0, 1) := dk_3 (dk_at dksX8_admits_0 2 rfl rfl)
theorem dX8_admits_3 : decode cX8_admits 3 = .ok (.istore_n 3, 1) := dk_62 (dk_at dksX8_admits_0 3 rfl rfl)
theorem dX8_admits_4 : decode cX8_admits 4 = .ok (.iload_n 3, 1) := dk_29 (dk_at dksX8_admits_0 4 rfl rfl)
theorem dX8_admits_5 : decode cX8_admits 5 = .ok (.aload_n 0, 1) := dk_42 (dk_at dksX8_admits_0 5 rfl rfl)
theorem dX8_admits_6 : decode cX8_admits 6 = .ok (.getfield 10, 3) := dk_180 0 10 (dk_at dksX8_admits_0 6 rfl rfl)
theorem dX8_admits_9 : decode cX8_admits 9 = .ok (.invokevirtual 22, 3) := dk_182 0 22 (dk_at dksX8_admits_0 9 rfl rfl)
theorem dX8_admits_12 : decode cX8_admits 12 = .ok (.if_icmp .ge 49, 3) := dk_162 0 49 (dk_at dksX8_admits_0 12 rfl rfl)
theorem dX8_admits_15 : decode cX8_admits 15 = .ok (.aload_n 0, 1) := dk_42 (dk_at dksX8_admits_0 15 rfl rfl)
theorem dX8_admits_16 : decode cX8_admits 16 = .ok (.getfield 10, 3) := dk_180 0 10 (dk_at dksX8_admits_0 16 rfl rfl)
theorem dX8_admits_19 : decode cX8_admits 19 = .ok (.iload_n 3, 1) := dk_29 (dk_at dksX8_admits_0 19 rfl rfl)
theorem dX8_admits_20 : decode cX8_admits 20 = .ok (.invokevirtual 26, 3) := dk_182 0 26 (dk_at dksX8_admits_0 20 rfl rfl)
theorem dX8_admits_23 : decode cX8_admits 23 = .ok (.checkcast 30, 3) := dk_192 0 30 (dk_at dksX8_admits_1 0 rfl rfl)
theorem dX8_admits_26 : decode cX8_admits 26 = .ok (.astore 4, 2) := dk_58 4 (dk_at dksX8_admits_1 3 rfl rfl)
theorem dX8_admits_28 : decode cX8_admits 28 = .ok (.aload 4, 2) := dk_25 4 (dk_at dksX8_admits_1 5 rfl rfl)
theorem dX8_admits_30 : decode cX8_admits 30 = .ok (.getfield 32, 3) := dk_180 0 32 (dk_at dksX8_admits_1 7 rfl rfl)
theorem dX8_admits_33 : decode cX8_admits 33 = .ok (.getstatic 36, 3) := dk_178 0 36 (dk_at dksX8_admits_1 10 rfl rfl)
theorem dX8_admits_36 : decode cX8_admits 36 = .ok (.if_acmp .eq 6, 3) := dk_165 0 6 (dk_at dksX8_admits_1 13 rfl rfl)
theorem dX8_admits_39 : decode cX8_admits 39 = .ok (.goto 16, 3) := dk_167 0 16 (dk_at dksX8_admits_1 16 rfl rfl)
theorem dX8_admits_42 : decode cX8_admits 42 = .ok (.aload 4, 2) := dk_25 4 (dk_at dksX8_admits_1 19 rfl rfl)
theorem dX8_admits_44 : decode cX8_admits 44 = .ok (.aload_n 1, 1) := dk_43 (dk_at dksX8_admits_1 21 rfl rfl)
theorem dX8_admits_45 : decode cX8_admits 45 = .ok (.invokevirtual 41, 3) := dk_182 0 41 (dk_at dksX8_admits_2 0 rfl rfl)
theorem dX8_admits_48 : decode cX8_admits 48 = .ok (.ifCond .eq 5, 3) := dk_153 0 5 (dk_at dksX8_admits_2 3 rfl rfl)
theorem dX8_admits_51 : decode cX8_admits 51 = .ok (.iconst 1, 1) := dk_4 (dk_at dksX8_admits_2 6 rfl rfl)
theorem dX8_admits_52 : decode cX8_admits 52 = .ok (.ireturn, 1) := dk_172 (dk_at dksX8_admits_2 7 rfl rfl)
theorem dX8_admits_53 : decode cX8_admits 53 = .ok (.iconst 1, 1) := dk_4 (dk_at dksX8_admits_2 8 rfl rfl)
theorem dX8_admits_54 : decode cX8_admits 54 = .ok (.istore_n 2, 1) := dk_61 (dk_at dksX8_admits_2 9 rfl rfl)
theorem dX8_admits_55 : decode cX8_admits 55 = .ok (.iinc 3 1, 3) := dk_132 3 1 (dk_at dksX8_admits_2 10 rfl rfl)
theorem dX8_admits_58 : decode cX8_admits 58 = .ok (.goto (-54), 3) := dk_167 255 202 (dk_at dksX8_admits_2 13 rfl rfl)
theorem dX8_admits_61 : decode cX8_admits 61 = .ok (.iload_n 2, 1) := dk_28 (dk_at dksX8_admits_2 16 rfl rfl)
theorem dX8_admits_62 : decode cX8_admits 62 = .ok (.ifCond .ne 14, 3) := dk_154 0 14 (dk_at dksX8_admits_2 17 rfl rfl)
theorem dX8_admits_65 : decode cX8_admits 65 = .ok (.aload_n 1, 1) := dk_43 (dk_at dksX8_admits_2 20 rfl rfl)
theorem dX8_admits_66 : decode cX8_admits 66 = .ok (.getfield 57, 3) := dk_180 0 57 (dk_at dksX8_admits_2 21 rfl rfl)
theorem dX8_admits_69 : decode cX8_admits 69 = .ok (.ifCond .eq 7, 3) := dk_153 0 7 (dk_at dksX8_admits_3 0 rfl rfl)
theorem dX8_admits_72 : decode cX8_admits 72 = .ok (.iconst 1, 1) := dk_4 (dk_at dksX8_admits_3 3 rfl rfl)
theorem dX8_admits_73 : decode cX8_admits 73 = .ok (.goto 4, 3) := dk_167 0 4 (dk_at dksX8_admits_3 4 rfl rfl)
theorem dX8_admits_76 : decode cX8_admits 76 = .ok (.iconst 0, 1) := dk_3 (dk_at dksX8_admits_3 7 rfl rfl)
theorem dX8_admits_77 : decode cX8_admits 77 = .ok (.ireturn, 1) := dk_172 (dk_at dksX8_admits_3 8 rfl rfl)
abbrev cX8_joy : ByteArray := prog_5_method_2_code
def yX8_joy : MethodName := ⟨RX8, "joy", "(LVisitingHours$Scene;)I"⟩
def dkwX8_joy_3 : List UInt8 := [167, 0, 9, 25, 4, 180, 0, 48, 116, 96, 61, 132, 3, 1, 167, 255, 181, 3, 28, 184, 0, 51, 172]
abbrev dktX8_joy_3 : List UInt8 := dkwX8_joy_3 ++ []
def dkwX8_joy_2 : List UInt8 := [182, 0, 41, 153, 0, 31, 28, 25, 4, 180, 0, 32, 178, 0, 45, 166, 0, 11, 25, 4, 180, 0, 48]
abbrev dktX8_joy_2 : List UInt8 := dkwX8_joy_2 ++ dktX8_joy_3
def dkwX8_joy_1 : List UInt8 := [182, 0, 26, 192, 0, 30, 58, 4, 25, 4, 180, 0, 32, 178, 0, 36, 165, 0, 40, 25, 4, 43]
abbrev dktX8_joy_1 : List UInt8 := dkwX8_joy_1 ++ dktX8_joy_2
def dkwX8_joy_0 : List UInt8 := [43, 180, 0, 16, 61, 3, 62, 29, 42, 180, 0, 10, 182, 0, 22, 162, 0, 70, 42, 180, 0, 10, 29]
abbrev dktX8_joy_0 : List UInt8 := dkwX8_joy_0 ++ dktX8_joy_1
theorem dksX8_joy_0 : cX8_joy.data.toList.drop 0 = dktX8_joy_0 := by decide +kernel
theorem dksX8_joy_1 : cX8_joy.data.toList.drop 23 = dktX8_joy_1 := dk_seg dksX8_joy_0 23 rfl rfl
theorem dksX8_joy_2 : cX8_joy.data.toList.drop 45 = dktX8_joy_2 := dk_seg dksX8_joy_1 22 rfl rfl
theorem dksX8_joy_3 : cX8_joy.data.toList.drop 68 = dktX8_joy_3 := dk_seg dksX8_joy_2 23 rfl rfl
theorem dX8_joy_0 : decode cX8_joy 0 = .ok (.aload_n 1, 1) := dk_43 (dk_at dksX8_joy_0 0 rfl rfl)
theorem dX8_joy_1 : decode cX8_joy 1 = .ok (.getfield 16, 3) := dk_180 0 16 (dk_at dksX8_joy_0 1 rfl rfl)
theorem dX8_joy_4 : decode cX8_joy 4 = .ok (.istore_n 2, 1) := dk_61 (dk_at dksX8_joy_0 4 rfl rfl)
theorem dX8_joy_5 : decode cX8_joy 5 = .ok (.iconst 0, 1) := dk_3 (dk_at dksX8_joy_0 5 rfl rfl)
theorem dX8_joy_6 : decode cX8_joy 6 = .ok (.istore_n 3, 1) := dk_62 (dk_at dksX8_joy_0 6 rfl rfl)
theorem dX8_joy_7 : decode cX8_joy 7 = .ok (.iload_n 3, 1) := dk_29 (dk_at dksX8_joy_0 7 rfl rfl)
theorem dX8_joy_8 : decode cX8_joy 8 = .ok (.aload_n 0, 1) := dk_42 (dk_at dksX8_joy_0 8 rfl rfl)
theorem dX8_joy_9 : decode cX8_joy 9 = .ok (.getfield 10, 3) := dk_180 0 10 (dk_at dksX8_joy_0 9 rfl rfl)
theorem dX8_joy_12 : decode cX8_joy 12 = .ok (.invokevirtual 22, 3) := dk_182 0 22 (dk_at dksX8_joy_0 12 rfl rfl)
theorem dX8_joy_15 : decode cX8_joy 15 = .ok (.if_icmp .ge 70, 3) := dk_162 0 70 (dk_at dksX8_joy_0 15 rfl rfl)
theorem dX8_joy_18 : decode cX8_joy 18 = .ok (.aload_n 0, 1) := dk_42 (dk_at dksX8_joy_0 18 rfl rfl)
theorem dX8_joy_19 : decode cX8_joy 19 = .ok (.getfield 10, 3) := dk_180 0 10 (dk_at dksX8_joy_0 19 rfl rfl)
theorem dX8_joy_22 : decode cX8_joy 22 = .ok (.iload_n 3, 1) := dk_29 (dk_at dksX8_joy_0 22 rfl rfl)
theorem dX8_joy_23 : decode cX8_joy 23 = .ok (.invokevirtual 26, 3) := dk_182 0 26 (dk_at dksX8_joy_1 0 rfl rfl)
theorem dX8_joy_26 : decode cX8_joy 26 = .ok (.checkcast 30, 3) := dk_192 0 30 (dk_at dksX8_joy_1 3 rfl rfl)
theorem dX8_joy_29 : decode cX8_joy 29 = .ok (.astore 4, 2) := dk_58 4 (dk_at dksX8_joy_1 6 rfl rfl)
theorem dX8_joy_31 : decode cX8_joy 31 = .ok (.aload 4, 2) := dk_25 4 (dk_at dksX8_joy_1 8 rfl rfl)
theorem dX8_joy_33 : decode cX8_joy 33 = .ok (.getfield 32, 3) := dk_180 0 32 (dk_at dksX8_joy_1 10 rfl rfl)
theorem dX8_joy_36 : decode cX8_joy 36 = .ok (.getstatic 36, 3) := dk_178 0 36 (dk_at dksX8_joy_1 13 rfl rfl)
theorem dX8_joy_39 : decode cX8_joy 39 = .ok (.if_acmp .eq 40, 3) := dk_165 0 40 (dk_at dksX8_joy_1 16 rfl rfl)
theorem dX8_joy_42 : decode cX8_joy 42 = .ok (.aload 4, 2) := dk_25 4 (dk_at dksX8_joy_1 19 rfl rfl)
theorem dX8_joy_44 : decode cX8_joy 44 = .ok (.aload_n 1, 1) := dk_43 (dk_at dksX8_joy_1 21 rfl rfl)
theorem dX8_joy_45 : decode cX8_joy 45 = .ok (.invokevirtual 41, 3) := dk_182 0 41 (dk_at dksX8_joy_2 0 rfl rfl)
theorem dX8_joy_48 : decode cX8_joy 48 = .ok (.ifCond .eq 31, 3) := dk_153 0 31 (dk_at dksX8_joy_2 3 rfl rfl)
theorem dX8_joy_51 : decode cX8_joy 51 = .ok (.iload_n 2, 1) := dk_28 (dk_at dksX8_joy_2 6 rfl rfl)
theorem dX8_joy_52 : decode cX8_joy 52 = .ok (.aload 4, 2) := dk_25 4 (dk_at dksX8_joy_2 7 rfl rfl)
theorem dX8_joy_54 : decode cX8_joy 54 = .ok (.getfield 32, 3) := dk_180 0 32 (dk_at dksX8_joy_2 9 rfl rfl)
theorem dX8_joy_57 : decode cX8_joy 57 = .ok (.getstatic 45, 3) := dk_178 0 45 (dk_at dksX8_joy_2 12 rfl rfl)
theorem dX8_joy_60 : decode cX8_joy 60 = .ok (.if_acmp .ne 11, 3) := dk_166 0 11 (dk_at dksX8_joy_2 15 rfl rfl)
theorem dX8_joy_63 : decode cX8_joy 63 = .ok (.aload 4, 2) := dk_25 4 (dk_at dksX8_joy_2 18 rfl rfl)
theorem dX8_joy_65 : decode cX8_joy 65 = .ok (.getfield 48, 3) := dk_180 0 48 (dk_at dksX8_joy_2 20 rfl rfl)
theorem dX8_joy_68 : decode cX8_joy 68 = .ok (.goto 9, 3) := dk_167 0 9 (dk_at dksX8_joy_3 0 rfl rfl)
theorem dX8_joy_71 : decode cX8_joy 71 = .ok (.aload 4, 2) := dk_25 4 (dk_at dksX8_joy_3 3 rfl rfl)
theorem dX8_joy_73 : decode cX8_joy 73 = .ok (.getfield 48, 3) := dk_180 0 48 (dk_at dksX8_joy_3 5 rfl rfl)
theorem dX8_joy_76 : decode cX8_joy 76 = .ok (.ineg, 1) := dk_116 (dk_at dksX8_joy_3 8 rfl rfl)
theorem dX8_joy_77 : decode cX8_joy 77 = .ok (.iadd, 1) := dk_96 (dk_at dksX8_joy_3 9 rfl rfl)
theorem dX8_joy_78 : decode cX8_joy 78 = .ok (.istore_n 2, 1) := dk_61 (dk_at dksX8_joy_3 10 rfl rfl)
theorem dX8_joy_79 : decode cX8_joy 79 = .ok (.iinc 3 1, 3) := dk_132 3 1 (dk_at dksX8_joy_3 11 rfl rfl)
theorem dX8_joy_82 : decode cX8_joy 82 = .ok (.goto (-75), 3) := dk_167 255 181 (dk_at dksX8_joy_3 14 rfl rfl)
theorem dX8_joy_85 : decode cX8_joy 85 = .ok (.iconst 0, 1) := dk_3 (dk_at dksX8_joy_3 17 rfl rfl)
theorem dX8_joy_86 : decode cX8_joy 86 = .ok (.iload_n 2, 1) := dk_28 (dk_at dksX8_joy_3 18 rfl rfl)
theorem dX8_joy_87 : decode cX8_joy 87 = .ok (.invokestatic 51, 3) := dk_184 0 51 (dk_at dksX8_joy_3 19 rfl rfl)
theorem dX8_joy_90 : decode cX8_joy 90 = .ok (.ireturn, 1) := dk_172 (dk_at dksX8_joy_3 22 rfl rfl)
abbrev cX8_init : ByteArray := prog_5_method_1_code
def yX8_init : MethodName := ⟨RX8, "<init>", "()V"⟩
def dkwX8_init_0 : List UInt8 := [42, 183, 0, 1, 42, 187, 0, 7, 89, 183, 0, 9, 181, 0, 10, 177]
abbrev dktX8_init_0 : List UInt8 := dkwX8_init_0 ++ []
theorem dksX8_init_0 : cX8_init.data.toList.drop 0 = dktX8_init_0 := by decide +kernel
theorem dX8_init_0 : decode cX8_init 0 = .ok (.aload_n 0, 1) := dk_42 (dk_at dksX8_init_0 0 rfl rfl)
theorem dX8_init_1 : decode cX8_init 1 = .ok (.invokespecial 1, 3) := dk_183 0 1 (dk_at dksX8_init_0 1 rfl rfl)
theorem dX8_init_4 : decode cX8_init 4 = .ok (.aload_n 0, 1) := dk_42 (dk_at dksX8_init_0 4 rfl rfl)
theorem dX8_init_5 : decode cX8_init 5 = .ok (.new 7, 3) := dk_187 0 7 (dk_at dksX8_init_0 5 rfl rfl)
theorem dX8_init_8 : decode cX8_init 8 = .ok (.dup, 1) := dk_89 (dk_at dksX8_init_0 8 rfl rfl)
theorem dX8_init_9 : decode cX8_init 9 = .ok (.invokespecial 9, 3) := dk_183 0 9 (dk_at dksX8_init_0 9 rfl rfl)
theorem dX8_init_12 : decode cX8_init 12 = .ok (.putfield 10, 3) := dk_181 0 10 (dk_at dksX8_init_0 12 rfl rfl)
theorem dX8_init_15 : decode cX8_init 15 = .ok (.return_, 1) := dk_177 (dk_at dksX8_init_0 15 rfl rfl)
theorem q171 : (Jvm.Cond.initialized "VisitingHours$Law") ∈ lw_all := lw_g (lw_at lw_m1 28 rfl) rfl
theorem q345 : (Jvm.Cond.fieldLinkNest "VisitingHours$Law" (16 : Nat) "VisitingHours$Scene" "rank" "I" "VisitingHours") ∈ lw_tbl := lw_at lw_m1 202 rfl
theorem q353 : (Jvm.Cond.fieldLinkNest "VisitingHours$Law" (57 : Nat) "VisitingHours$Scene" "marked" "Z" "VisitingHours") ∈ lw_tbl := lw_at lw_m1 210 rfl
theorem q534 : (Jvm.Cond.instanceMethod ({ cls := "VisitingHours$Law", name := "admits", desc := "(LVisitingHours$Scene;)Z" } : Jvm.MethodName)) ∈ lw_all := lw_g (lw_at lw_m2 151 rfl) rfl
theorem q535 : (Jvm.Cond.selects "VisitingHours$Law" ({ cls := "VisitingHours$Law", name := "admits", desc := "(LVisitingHours$Scene;)Z" } : Jvm.MethodName) ({ cls := "VisitingHours$Law", name := "admits", desc := "(LVisitingHours$Scene;)Z" } : Jvm.MethodName)) ∈ lw_all := lw_g (lw_at lw_m2 152 rfl) rfl
theorem q536 : (Jvm.Cond.code ({ cls := "VisitingHours$Law", name := "admits", desc := "(LVisitingHours$Scene;)Z" } : Jvm.MethodName) prog_5_method_3_code (5 : Nat) (Option.some Jvm.ClassFile.FieldType.boolean)) ∈ lw_all := lw_g (lw_at lw_m2 153 rfl) rfl
theorem q537 : (Jvm.Cond.methodLink "VisitingHours$Law" (22 : Nat) ({ cls := "java/util/ArrayList", name := "size", desc := "()I" } : Jvm.MethodName)) ∈ lw_all := lw_g (lw_at lw_m2 154 rfl) rfl
theorem q541 : (Jvm.Cond.methodLink "VisitingHours$Law" (26 : Nat) ({ cls := "java/util/ArrayList", name := "get", desc := "(I)Ljava/lang/Object;" } : Jvm.MethodName)) ∈ lw_all := lw_g (lw_at lw_m2 158 rfl) rfl
theorem q555 : (Jvm.Cond.classLink "VisitingHours$Law" (30 : Nat) "VisitingHours$Line") ∈ lw_all := lw_g (lw_at lw_m2 172 rfl) rfl
theorem q556 : (Jvm.Cond.fieldLink "VisitingHours$Law" (36 : Nat) "VisitingHours$Kind" "ADMIT" "LVisitingHours$Kind;") ∈ lw_all := lw_g (lw_at lw_m2 173 rfl) rfl
theorem q558 : (Jvm.Cond.methodLink "VisitingHours$Law" (41 : Nat) ({ cls := "VisitingHours$Line", name := "holds", desc := "(LVisitingHours$Scene;)Z" } : Jvm.MethodName)) ∈ lw_all := lw_g (lw_at lw_m2 175 rfl) rfl
theorem q623 : (Jvm.Cond.instanceMethod ({ cls := "VisitingHours$Law", name := "joy", desc := "(LVisitingHours$Scene;)I" } : Jvm.MethodName)) ∈ lw_all := lw_g (lw_at lw_m3 0 rfl) rfl
theorem q624 : (Jvm.Cond.selects "VisitingHours$Law" ({ cls := "VisitingHours$Law", name := "joy", desc := "(LVisitingHours$Scene;)I" } : Jvm.MethodName) ({ cls := "VisitingHours$Law", name := "joy", desc := "(LVisitingHours$Scene;)I" } : Jvm.MethodName)) ∈ lw_all := lw_g (lw_at lw_m3 1 rfl) rfl
theorem q625 : (Jvm.Cond.code ({ cls := "VisitingHours$Law", name := "joy", desc := "(LVisitingHours$Scene;)I" } : Jvm.MethodName) prog_5_method_2_code (5 : Nat) (Option.some Jvm.ClassFile.FieldType.int)) ∈ lw_all := lw_g (lw_at lw_m3 2 rfl) rfl
theorem q626 : (Jvm.Cond.fieldLink "VisitingHours$Law" (45 : Nat) "VisitingHours$Kind" "GLAD" "LVisitingHours$Kind;") ∈ lw_all := lw_g (lw_at lw_m3 3 rfl) rfl
theorem q628 : (Jvm.Cond.methodLink "VisitingHours$Law" (51 : Nat) ({ cls := "java/lang/Math", name := "max", desc := "(II)I" } : Jvm.MethodName)) ∈ lw_all := lw_g (lw_at lw_m3 5 rfl) rfl
theorem q1397 : (Jvm.Cond.instantiable "VisitingHours$Law" (1 : Nat)) ∈ lw_all := lw_g (lw_at lw_m6 54 rfl) rfl
theorem q1399 : (Jvm.Cond.instanceMethod ({ cls := "VisitingHours$Law", name := "<init>", desc := "()V" } : Jvm.MethodName)) ∈ lw_all := lw_g (lw_at lw_m6 56 rfl) rfl
theorem q1400 : (Jvm.Cond.code ({ cls := "VisitingHours$Law", name := "<init>", desc := "()V" } : Jvm.MethodName) prog_5_method_1_code (1 : Nat) (Option.none : Option Jvm.ClassFile.FieldType)) ∈ lw_all := lw_g (lw_at lw_m6 57 rfl) rfl
theorem q1401 : (Jvm.Cond.methodLink "VisitingHours$Law" (1 : Nat) ({ cls := "java/lang/Object", name := "<init>", desc := "()V" } : Jvm.MethodName)) ∈ lw_all := lw_g (lw_at lw_m6 58 rfl) rfl
theorem q1402 : (Jvm.Cond.classLink "VisitingHours$Law" (7 : Nat) "java/util/ArrayList") ∈ lw_all := lw_g (lw_at lw_m6 59 rfl) rfl
theorem q1403 : (Jvm.Cond.methodLink "VisitingHours$Law" (9 : Nat) ({ cls := "java/util/ArrayList", name := "<init>", desc := "()V" } : Jvm.MethodName)) ∈ lw_all := lw_g (lw_at lw_m6 60 rfl) rfl
theorem q1404 : (Jvm.Cond.fieldLink "VisitingHours$Law" (10 : Nat) "VisitingHours$Law" "lines" "Ljava/util/ArrayList;") ∈ lw_all := lw_g (lw_at lw_m6 61 rfl) rfl
theorem q1406 : (Jvm.Cond.laysFinal "VisitingHours$Law" "VisitingHours$Law" "lines" "Ljava/util/ArrayList;") ∈ lw_all := lw_g (lw_at lw_m6 63 rfl) rfl
theorem q1407 : (Jvm.Cond.soleField "VisitingHours$Law" "lines") ∈ lw_all := lw_g (lw_at lw_m6 64 rfl) rfl
theorem q1408 : (Jvm.Cond.superclass "VisitingHours$Law" "java/lang/Object") ∈ lw_all := lw_g (lw_at lw_m6 65 rfl) rfl
theorem q1570 : (Jvm.Cond.selects "VisitingHours$Law" ({ cls := "java/lang/Object", name := "getClass", desc := "()Ljava/lang/Class;" } : Jvm.MethodName) ({ cls := "java/lang/Object", name := "getClass", desc := "()Ljava/lang/Class;" } : Jvm.MethodName)) ∈ lw_all := lw_g (lw_at lw_m6 227 rfl) rfl
theorem q1623 : (Jvm.Cond.fieldLinkNest "VisitingHours$Law" (32 : Nat) "VisitingHours$Line" "kind" "LVisitingHours$Kind;" "VisitingHours") ∈ lw_tbl := lw_at lw_m7 40 rfl
theorem q1625 : (Jvm.Cond.fieldLinkNest "VisitingHours$Law" (48 : Nat) "VisitingHours$Line" "n" "I" "VisitingHours") ∈ lw_tbl := lw_at lw_m7 42 rfl
theorem q2815 : (Jvm.Cond.castable "VisitingHours$Law" "java/lang/Object") ∈ lw_tbl := lw_at lw_m12 32 rfl
theorem in_X8 : ∀ w ∈ wsX80, w ∈ lw_all := lw_in wsX80 [1406] (by decide +kernel) (by decide +kernel)
/-! VisitingHours$Kind -/
set_option maxRecDepth 100000
def RX9 : String := "VisitingHours$Kind"
abbrev cX9_of : ByteArray := prog_4_method_4_code
def yX9_of : MethodName := ⟨RX9, "of", "(Ljava/lang/String;)LVisitingHours$Kind;"⟩
def dkwX9_of_1 : List UInt8 := [42, 182, 0, 40, 153, 0, 6, 25, 4, 176, 132, 3, 1, 167, 255, 228, 1, 176]
abbrev dktX9_of_1 : List UInt8 := dkwX9_of_1 ++ []
def dkwX9_of_0 : List UInt8 := [184, 0, 36, 76, 43, 190, 61, 3, 62, 29, 28, 162, 0, 29, 43, 29, 50, 58, 4, 25, 4, 180, 0, 32]
abbrev dktX9_of_0 : List UInt8 := dkwX9_of_0 ++ dktX9_of_1
theorem dksX9_of_0 : cX9_of.data.toList.drop 0 = dktX9_of_0 := by decide +kernel
theorem dksX9_of_1 : cX9_of.data.toList.drop 24 = dktX9_of_1 := dk_seg dksX9_of_0 24 rfl rfl
theorem dX9_of_0 : decode cX9_of 0 = .ok (.invokestatic 36, 3) := dk_184 0 36 (dk_at dksX9_of_0 0 rfl rfl)
theorem dX9_of_3 : decode cX9_of 3 = .ok (.astore_n 1, 1) := dk_76 (dk_at dksX9_of_0 3 rfl rfl)
theorem dX9_of_4 : decode cX9_of 4 = .ok (.aload_n 1, 1) := dk_43 (dk_at dksX9_of_0 4 rfl rfl)
theorem dX9_of_5 : decode cX9_of 5 = .ok (.arraylength, 1) := dk_190 (dk_at dksX9_of_0 5 rfl rfl)
theorem dX9_of_6 : decode cX9_of 6 = .ok (.istore_n 2, 1) := dk_61 (dk_at dksX9_of_0 6 rfl rfl)
theorem dX9_of_7 : decode cX9_of 7 = .ok (.iconst 0, 1) := dk_3 (dk_at dksX9_of_0 7 rfl rfl)
theorem dX9_of_8 : decode cX9_of 8 = .ok (.istore_n 3, 1) := dk_62 (dk_at dksX9_of_0 8 rfl rfl)
theorem dX9_of_9 : decode cX9_of 9 = .ok (.iload_n 3, 1) := dk_29 (dk_at dksX9_of_0 9 rfl rfl)
theorem dX9_of_10 : decode cX9_of 10 = .ok (.iload_n 2, 1) := dk_28 (dk_at dksX9_of_0 10 rfl rfl)
theorem dX9_of_11 : decode cX9_of 11 = .ok (.if_icmp .ge 29, 3) := dk_162 0 29 (dk_at dksX9_of_0 11 rfl rfl)
theorem dX9_of_14 : decode cX9_of 14 = .ok (.aload_n 1, 1) := dk_43 (dk_at dksX9_of_0 14 rfl rfl)
theorem dX9_of_15 : decode cX9_of 15 = .ok (.iload_n 3, 1) := dk_29 (dk_at dksX9_of_0 15 rfl rfl)
theorem dX9_of_16 : decode cX9_of 16 = .ok (.aaload, 1) := dk_50 (dk_at dksX9_of_0 16 rfl rfl)
theorem dX9_of_17 : decode cX9_of 17 = .ok (.astore 4, 2) := dk_58 4 (dk_at dksX9_of_0 17 rfl rfl)
theorem dX9_of_19 : decode cX9_of 19 = .ok (.aload 4, 2) := dk_25 4 (dk_at dksX9_of_0 19 rfl rfl)
theorem dX9_of_21 : decode cX9_of 21 = .ok (.getfield 32, 3) := dk_180 0 32 (dk_at dksX9_of_0 21 rfl rfl)
theorem dX9_of_24 : decode cX9_of 24 = .ok (.aload_n 0, 1) := dk_42 (dk_at dksX9_of_1 0 rfl rfl)
theorem dX9_of_25 : decode cX9_of 25 = .ok (.invokevirtual 40, 3) := dk_182 0 40 (dk_at dksX9_of_1 1 rfl rfl)
theorem dX9_of_28 : decode cX9_of 28 = .ok (.ifCond .eq 6, 3) := dk_153 0 6 (dk_at dksX9_of_1 4 rfl rfl)
theorem dX9_of_31 : decode cX9_of 31 = .ok (.aload 4, 2) := dk_25 4 (dk_at dksX9_of_1 7 rfl rfl)
theorem dX9_of_33 : decode cX9_of 33 = .ok (.areturn, 1) := dk_176 (dk_at dksX9_of_1 9 rfl rfl)
theorem dX9_of_34 : decode cX9_of 34 = .ok (.iinc 3 1, 3) := dk_132 3 1 (dk_at dksX9_of_1 10 rfl rfl)
theorem dX9_of_37 : decode cX9_of 37 = .ok (.goto (-28), 3) := dk_167 255 228 (dk_at dksX9_of_1 13 rfl rfl)
theorem dX9_of_40 : decode cX9_of 40 = .ok (.aconst_null, 1) := dk_1 (dk_at dksX9_of_1 16 rfl rfl)
theorem dX9_of_41 : decode cX9_of 41 = .ok (.areturn, 1) := dk_176 (dk_at dksX9_of_1 17 rfl rfl)
abbrev cX9_values : ByteArray := prog_4_method_1_code
def yX9_values : MethodName := ⟨RX9, "values", "()[LVisitingHours$Kind;"⟩
def dkwX9_values_0 : List UInt8 := [178, 0, 13, 182, 0, 17, 192, 0, 18, 176]
abbrev dktX9_values_0 : List UInt8 := dkwX9_values_0 ++ []
theorem dksX9_values_0 : cX9_values.data.toList.drop 0 = dktX9_values_0 := by decide +kernel
theorem dX9_values_0 : decode cX9_values 0 = .ok (.getstatic 13, 3) := dk_178 0 13 (dk_at dksX9_values_0 0 rfl rfl)
theorem dX9_values_3 : decode cX9_values 3 = .ok (.invokevirtual 17, 3) := dk_182 0 17 (dk_at dksX9_values_0 3 rfl rfl)
theorem dX9_values_6 : decode cX9_values 6 = .ok (.checkcast 18, 3) := dk_192 0 18 (dk_at dksX9_values_0 6 rfl rfl)
theorem dX9_values_9 : decode cX9_values 9 = .ok (.areturn, 1) := dk_176 (dk_at dksX9_values_0 9 rfl rfl)
theorem q173 : (Jvm.Cond.initialized "VisitingHours$Kind") ∈ lw_all := lw_g (lw_at lw_m1 30 rfl) rfl
theorem q557 : (Jvm.Cond.laysStatic "VisitingHours$Kind" "ADMIT" "LVisitingHours$Kind;") ∈ lw_tbl := lw_at lw_m2 174 rfl
theorem q627 : (Jvm.Cond.laysStatic "VisitingHours$Kind" "GLAD" "LVisitingHours$Kind;") ∈ lw_tbl := lw_at lw_m3 4 rfl
theorem q1414 : (Jvm.Cond.static ({ cls := "VisitingHours$Kind", name := "of", desc := "(Ljava/lang/String;)LVisitingHours$Kind;" } : Jvm.MethodName)) ∈ lw_all := lw_g (lw_at lw_m6 71 rfl) rfl
theorem q1415 : (Jvm.Cond.code ({ cls := "VisitingHours$Kind", name := "of", desc := "(Ljava/lang/String;)LVisitingHours$Kind;" } : Jvm.MethodName) prog_4_method_4_code (5 : Nat) (Option.some (Jvm.ClassFile.FieldType.object "VisitingHours$Kind"))) ∈ lw_all := lw_g (lw_at lw_m6 72 rfl) rfl
theorem q1416 : (Jvm.Cond.methodLink "VisitingHours$Kind" (36 : Nat) ({ cls := "VisitingHours$Kind", name := "values", desc := "()[LVisitingHours$Kind;" } : Jvm.MethodName)) ∈ lw_all := lw_g (lw_at lw_m6 73 rfl) rfl
theorem q1417 : (Jvm.Cond.static ({ cls := "VisitingHours$Kind", name := "values", desc := "()[LVisitingHours$Kind;" } : Jvm.MethodName)) ∈ lw_all := lw_g (lw_at lw_m6 74 rfl) rfl
theorem q1418 : (Jvm.Cond.code ({ cls := "VisitingHours$Kind", name := "values", desc := "()[LVisitingHours$Kind;" } : Jvm.MethodName) prog_4_method_1_code (0 : Nat) (Option.some (Jvm.ClassFile.FieldType.array (Jvm.ClassFile.FieldType.object "VisitingHours$Kind")))) ∈ lw_all := lw_g (lw_at lw_m6 75 rfl) rfl
theorem q1419 : (Jvm.Cond.fieldLink "VisitingHours$Kind" (13 : Nat) "VisitingHours$Kind" "$VALUES" "[LVisitingHours$Kind;") ∈ lw_all := lw_g (lw_at lw_m6 76 rfl) rfl
theorem q1420 : (Jvm.Cond.laysStatic "VisitingHours$Kind" "$VALUES" "[LVisitingHours$Kind;") ∈ lw_tbl := lw_at lw_m6 77 rfl
theorem q1421 : (Jvm.Cond.methodLink "VisitingHours$Kind" (17 : Nat) ({ cls := "[LVisitingHours$Kind;", name := "clone", desc := "()Ljava/lang/Object;" } : Jvm.MethodName)) ∈ lw_all := lw_g (lw_at lw_m6 78 rfl) rfl
theorem q1426 : (Jvm.Cond.classLink "VisitingHours$Kind" (18 : Nat) "[LVisitingHours$Kind;") ∈ lw_all := lw_g (lw_at lw_m6 83 rfl) rfl
theorem q1427 : (Jvm.Cond.methodLink "VisitingHours$Kind" (40 : Nat) ({ cls := "java/lang/String", name := "equals", desc := "(Ljava/lang/Object;)Z" } : Jvm.MethodName)) ∈ lw_all := lw_g (lw_at lw_m6 84 rfl) rfl
theorem q1569 : (Jvm.Cond.selects "VisitingHours$Kind" ({ cls := "java/lang/Object", name := "getClass", desc := "()Ljava/lang/Class;" } : Jvm.MethodName) ({ cls := "java/lang/Object", name := "getClass", desc := "()Ljava/lang/Class;" } : Jvm.MethodName)) ∈ lw_all := lw_g (lw_at lw_m6 226 rfl) rfl
theorem q2800 : (Jvm.Cond.castable "VisitingHours$Kind" "java/lang/Object") ∈ lw_tbl := lw_at lw_m12 17 rfl
theorem q2841 : (Jvm.Cond.fieldLink "VisitingHours$Kind" (32 : Nat) "VisitingHours$Kind" "told" "Ljava/lang/String;") ∈ lw_all := lw_g (lw_at lw_m12 58 rfl) rfl
theorem q2844 : (Jvm.Cond.stringRef "VisitingHours$Kind" (56 : Nat) "admit") ∈ lw_tbl := lw_at lw_m12 61 rfl
theorem q2845 : (Jvm.Cond.stringRef "VisitingHours$Kind" (47 : Nat) "glad") ∈ lw_tbl := lw_at lw_m12 62 rfl
theorem q2846 : (Jvm.Cond.laysStatic "VisitingHours$Kind" "SOUR" "LVisitingHours$Kind;") ∈ lw_tbl := lw_at lw_m12 63 rfl
theorem q2854 : (Jvm.Cond.stringRef "VisitingHours$Kind" (53 : Nat) "sour") ∈ lw_tbl := lw_at lw_m12 71 rfl
/-! VisitingHours$Line -/
set_option maxRecDepth 100000
def RX10 : String := "VisitingHours$Line"
def TX10 : u_T := fun k => match k with
  | 0 => ("VisitingHours$Line", "kind", "LVisitingHours$Kind;", true)
  | 1 => ("VisitingHours$Line", "n", "I", true)
  | _ => ("VisitingHours$Line", "when", "LVisitingHours$Cond;", true)
def tyX10 : Nat → FieldType := fun k => match k with
  | 0 => .object "VisitingHours$Kind"
  | 1 => .int
  | _ => .object "VisitingHours$Cond"
abbrev wsX100 : List Cond := u_ws RX10 TX10 3
theorem nmX10 : ∀ a, a < 3 → ∀ b, b < 3 → a ≠ b → (TX10 a).2.1 ≠ (TX10 b).2.1 := by decide +kernel
theorem tyX10_ok : ∀ k, k < 3 → parseFieldDescriptor (TX10 k).2.2.1 = some (tyX10 k) := by decide +kernel
abbrev cX10_holds : ByteArray := prog_7_method_2_code
def yX10_holds : MethodName := ⟨RX10, "holds", "(LVisitingHours$Scene;)Z"⟩
def dkwX10_holds_1 : List UInt8 := [3, 172]
abbrev dktX10_holds_1 : List UInt8 := dkwX10_holds_1 ++ []
def dkwX10_holds_0 : List UInt8 := [42, 180, 0, 17, 198, 0, 16, 42, 180, 0, 17, 43, 185, 0, 21, 2, 0, 153, 0, 7, 4, 167, 0, 4]
abbrev dktX10_holds_0 : List UInt8 := dkwX10_holds_0 ++ dktX10_holds_1
theorem dksX10_holds_0 : cX10_holds.data.toList.drop 0 = dktX10_holds_0 := by decide +kernel
theorem dksX10_holds_1 : cX10_holds.data.toList.drop 24 = dktX10_holds_1 := dk_seg dksX10_holds_0 24 rfl rfl
theorem dX10_holds_0 : decode cX10_holds 0 = .ok (.aload_n 0, 1) := dk_42 (dk_at dksX10_holds_0 0 rfl rfl)
theorem dX10_holds_1 : decode cX10_holds 1 = .ok (.getfield 17, 3) := dk_180 0 17 (dk_at dksX10_holds_0 1 rfl rfl)
theorem dX10_holds_4 : decode cX10_holds 4 = .ok (.ifnull 16, 3) := dk_198 0 16 (dk_at dksX10_holds_0 4 rfl rfl)
theorem dX10_holds_7 : decode cX10_holds 7 = .ok (.aload_n 0, 1) := dk_42 (dk_at dksX10_holds_0 7 rfl rfl)
theorem dX10_holds_8 : decode cX10_holds 8 = .ok (.getfield 17, 3) := dk_180 0 17 (dk_at dksX10_holds_0 8 rfl rfl)
theorem dX10_holds_11 : decode cX10_holds 11 = .ok (.aload_n 1, 1) := dk_43 (dk_at dksX10_holds_0 11 rfl rfl)
theorem dX10_holds_12 : decode cX10_holds 12 = .ok (.invokeinterface 21 2, 5) := by decide +kernel
theorem dX10_holds_17 : decode cX10_holds 17 = .ok (.ifCond .eq 7, 3) := dk_153 0 7 (dk_at dksX10_holds_0 17 rfl rfl)
theorem dX10_holds_20 : decode cX10_holds 20 = .ok (.iconst 1, 1) := dk_4 (dk_at dksX10_holds_0 20 rfl rfl)
theorem dX10_holds_21 : decode cX10_holds 21 = .ok (.goto 4, 3) := dk_167 0 4 (dk_at dksX10_holds_0 21 rfl rfl)
theorem dX10_holds_24 : decode cX10_holds 24 = .ok (.iconst 0, 1) := dk_3 (dk_at dksX10_holds_1 0 rfl rfl)
theorem dX10_holds_25 : decode cX10_holds 25 = .ok (.ireturn, 1) := dk_172 (dk_at dksX10_holds_1 1 rfl rfl)
abbrev cX10_init : ByteArray := prog_7_method_1_code
def yX10_init : MethodName := ⟨RX10, "<init>", "(LVisitingHours$Kind;ILVisitingHours$Cond;)V"⟩
def dkwX10_init_0 : List UInt8 := [42, 183, 0, 1, 42, 43, 181, 0, 7, 42, 28, 181, 0, 13, 42, 45, 181, 0, 17, 177]
abbrev dktX10_init_0 : List UInt8 := dkwX10_init_0 ++ []
theorem dksX10_init_0 : cX10_init.data.toList.drop 0 = dktX10_init_0 := by decide +kernel
theorem dX10_init_0 : decode cX10_init 0 = .ok (.aload_n 0, 1) := dk_42 (dk_at dksX10_init_0 0 rfl rfl)
theorem dX10_init_1 : decode cX10_init 1 = .ok (.invokespecial 1, 3) := dk_183 0 1 (dk_at dksX10_init_0 1 rfl rfl)
theorem dX10_init_4 : decode cX10_init 4 = .ok (.aload_n 0, 1) := dk_42 (dk_at dksX10_init_0 4 rfl rfl)
theorem dX10_init_5 : decode cX10_init 5 = .ok (.aload_n 1, 1) := dk_43 (dk_at dksX10_init_0 5 rfl rfl)
theorem dX10_init_6 : decode cX10_init 6 = .ok (.putfield 7, 3) := dk_181 0 7 (dk_at dksX10_init_0 6 rfl rfl)
theorem dX10_init_9 : decode cX10_init 9 = .ok (.aload_n 0, 1) := dk_42 (dk_at dksX10_init_0 9 rfl rfl)
theorem dX10_init_10 : decode cX10_init 10 = .ok (.iload_n 2, 1) := dk_28 (dk_at dksX10_init_0 10 rfl rfl)
theorem dX10_init_11 : decode cX10_init 11 = .ok (.putfield 13, 3) := dk_181 0 13 (dk_at dksX10_init_0 11 rfl rfl)
theorem dX10_init_14 : decode cX10_init 14 = .ok (.aload_n 0, 1) := dk_42 (dk_at dksX10_init_0 14 rfl rfl)
theorem dX10_init_15 : decode cX10_init 15 = .ok (.aload_n 3, 1) := dk_45 (dk_at dksX10_init_0 15 rfl rfl)
theorem dX10_init_16 : decode cX10_init 16 = .ok (.putfield 17, 3) := dk_181 0 17 (dk_at dksX10_init_0 16 rfl rfl)
theorem dX10_init_19 : decode cX10_init 19 = .ok (.return_, 1) := dk_177 (dk_at dksX10_init_0 19 rfl rfl)
theorem q174 : (Jvm.Cond.initialized "VisitingHours$Line") ∈ lw_all := lw_g (lw_at lw_m1 31 rfl) rfl
theorem q559 : (Jvm.Cond.instanceMethod ({ cls := "VisitingHours$Line", name := "holds", desc := "(LVisitingHours$Scene;)Z" } : Jvm.MethodName)) ∈ lw_all := lw_g (lw_at lw_m2 176 rfl) rfl
theorem q560 : (Jvm.Cond.selects "VisitingHours$Line" ({ cls := "VisitingHours$Line", name := "holds", desc := "(LVisitingHours$Scene;)Z" } : Jvm.MethodName) ({ cls := "VisitingHours$Line", name := "holds", desc := "(LVisitingHours$Scene;)Z" } : Jvm.MethodName)) ∈ lw_all := lw_g (lw_at lw_m2 177 rfl) rfl
theorem q561 : (Jvm.Cond.code ({ cls := "VisitingHours$Line", name := "holds", desc := "(LVisitingHours$Scene;)Z" } : Jvm.MethodName) prog_7_method_2_code (2 : Nat) (Option.some Jvm.ClassFile.FieldType.boolean)) ∈ lw_all := lw_g (lw_at lw_m2 178 rfl) rfl
theorem q562 : (Jvm.Cond.interfaceEntry "VisitingHours$Line" (21 : Nat)) ∈ lw_tbl := lw_at lw_m2 179 rfl
theorem q563 : (Jvm.Cond.methodLink "VisitingHours$Line" (21 : Nat) ({ cls := "VisitingHours$Cond", name := "holds", desc := "(LVisitingHours$Scene;)Z" } : Jvm.MethodName)) ∈ lw_all := lw_g (lw_at lw_m2 180 rfl) rfl
theorem q1430 : (Jvm.Cond.instantiable "VisitingHours$Line" (3 : Nat)) ∈ lw_all := lw_g (lw_at lw_m6 87 rfl) rfl
theorem q1572 : (Jvm.Cond.selects "VisitingHours$Line" ({ cls := "java/lang/Object", name := "getClass", desc := "()Ljava/lang/Class;" } : Jvm.MethodName) ({ cls := "java/lang/Object", name := "getClass", desc := "()Ljava/lang/Class;" } : Jvm.MethodName)) ∈ lw_all := lw_g (lw_at lw_m6 229 rfl) rfl
theorem q1619 : (Jvm.Cond.instanceMethod ({ cls := "VisitingHours$Line", name := "<init>", desc := "(LVisitingHours$Kind;ILVisitingHours$Cond;)V" } : Jvm.MethodName)) ∈ lw_all := lw_g (lw_at lw_m7 36 rfl) rfl
theorem q1620 : (Jvm.Cond.code ({ cls := "VisitingHours$Line", name := "<init>", desc := "(LVisitingHours$Kind;ILVisitingHours$Cond;)V" } : Jvm.MethodName) prog_7_method_1_code (4 : Nat) (Option.none : Option Jvm.ClassFile.FieldType)) ∈ lw_all := lw_g (lw_at lw_m7 37 rfl) rfl
theorem q1621 : (Jvm.Cond.methodLink "VisitingHours$Line" (1 : Nat) ({ cls := "java/lang/Object", name := "<init>", desc := "()V" } : Jvm.MethodName)) ∈ lw_all := lw_g (lw_at lw_m7 38 rfl) rfl
theorem q1622 : (Jvm.Cond.fieldLink "VisitingHours$Line" (7 : Nat) "VisitingHours$Line" "kind" "LVisitingHours$Kind;") ∈ lw_all := lw_g (lw_at lw_m7 39 rfl) rfl
theorem q1624 : (Jvm.Cond.fieldLink "VisitingHours$Line" (13 : Nat) "VisitingHours$Line" "n" "I") ∈ lw_all := lw_g (lw_at lw_m7 41 rfl) rfl
theorem q1626 : (Jvm.Cond.fieldLink "VisitingHours$Line" (17 : Nat) "VisitingHours$Line" "when" "LVisitingHours$Cond;") ∈ lw_all := lw_g (lw_at lw_m7 43 rfl) rfl
theorem q1627 : (Jvm.Cond.laysFinal "VisitingHours$Line" "VisitingHours$Line" "kind" "LVisitingHours$Kind;") ∈ lw_all := lw_g (lw_at lw_m7 44 rfl) rfl
theorem q1628 : (Jvm.Cond.soleField "VisitingHours$Line" "kind") ∈ lw_all := lw_g (lw_at lw_m7 45 rfl) rfl
theorem q1629 : (Jvm.Cond.laysFinal "VisitingHours$Line" "VisitingHours$Line" "n" "I") ∈ lw_all := lw_g (lw_at lw_m7 46 rfl) rfl
theorem q1630 : (Jvm.Cond.soleField "VisitingHours$Line" "n") ∈ lw_all := lw_g (lw_at lw_m7 47 rfl) rfl
theorem q1631 : (Jvm.Cond.laysFinal "VisitingHours$Line" "VisitingHours$Line" "when" "LVisitingHours$Cond;") ∈ lw_all := lw_g (lw_at lw_m7 48 rfl) rfl
theorem q1632 : (Jvm.Cond.soleField "VisitingHours$Line" "when") ∈ lw_all := lw_g (lw_at lw_m7 49 rfl) rfl
theorem q1633 : (Jvm.Cond.superclass "VisitingHours$Line" "java/lang/Object") ∈ lw_all := lw_g (lw_at lw_m7 50 rfl) rfl
theorem q2816 : (Jvm.Cond.castable "VisitingHours$Line" "java/lang/Object") ∈ lw_tbl := lw_at lw_m12 33 rfl
theorem in_X10 : ∀ w ∈ wsX100, w ∈ lw_all := lw_in wsX100 [1627, 1629, 1631] (by decide +kernel) (by decide +kernel)
/-! VisitingHours$Row -/
set_option maxRecDepth 100000
def RX11 : String := "VisitingHours$Row"
def TX11 : u_T := fun k => match k with
  | 0 => ("VisitingHours$Row", "all", "Z", true)
  | _ => ("VisitingHours$Row", "row", "Ljava/util/ArrayList;", true)
def tyX11 : Nat → FieldType := fun k => match k with
  | 0 => .boolean
  | _ => .object "java/util/ArrayList"
abbrev wsX110 : List Cond := u_ws RX11 TX11 2
theorem nmX11 : ∀ a, a < 2 → ∀ b, b < 2 → a ≠ b → (TX11 a).2.1 ≠ (TX11 b).2.1 := by decide +kernel
theorem tyX11_ok : ∀ k, k < 2 → parseFieldDescriptor (TX11 k).2.2.1 = some (tyX11 k) := by decide +kernel
abbrev cX11_holds : ByteArray := prog_12_method_2_code
def yX11_holds : MethodName := ⟨RX11, "holds", "(LVisitingHours$Scene;)Z"⟩
def dkwX11_holds_2 : List UInt8 := [3, 172, 132, 2, 1, 167, 255, 205, 42, 180, 0, 16, 172]
abbrev dktX11_holds_2 : List UInt8 := dkwX11_holds_2 ++ []
def dkwX11_holds_1 : List UInt8 := [43, 185, 0, 30, 2, 0, 42, 180, 0, 16, 159, 0, 16, 42, 180, 0, 16, 154, 0, 7, 4, 167, 0, 4]
abbrev dktX11_holds_1 : List UInt8 := dkwX11_holds_1 ++ dktX11_holds_2
def dkwX11_holds_0 : List UInt8 := [3, 61, 28, 42, 180, 0, 10, 182, 0, 20, 162, 0, 46, 42, 180, 0, 10, 28, 182, 0, 24, 192, 0, 28]
abbrev dktX11_holds_0 : List UInt8 := dkwX11_holds_0 ++ dktX11_holds_1
theorem dksX11_holds_0 : cX11_holds.data.toList.drop 0 = dktX11_holds_0 := by decide +kernel
theorem dksX11_holds_1 : cX11_holds.data.toList.drop 24 = dktX11_holds_1 := dk_seg dksX11_holds_0 24 rfl rfl
theorem dksX11_holds_2 : cX11_holds.data.toList.drop 48 = dktX11_holds_2 := dk_seg dksX11_holds_1 24 rfl rfl
theorem dX11_holds_0 : decode cX11_holds 0 = .ok (.iconst 0, 1) := dk_3 (dk_at dksX11_holds_0 0 rfl rfl)
theorem dX11_holds_1 : decode cX11_holds 1 = .ok (.istore_n 2, 1) := dk_61 (dk_at dksX11_holds_0 1 rfl rfl)
theorem dX11_holds_2 : decode cX11_holds 2 = .ok (.iload_n 2, 1) := dk_28 (dk_at dksX11_holds_0 2 rfl rfl)
theorem dX11_holds_3 : decode cX11_holds 3 = .ok (.aload_n 0, 1) := dk_42 (dk_at dksX11_holds_0 3 rfl rfl)
theorem dX11_holds_4 : decode cX11_holds 4 = .ok (.getfield 10, 3) := dk_180 0 10 (dk_at dksX11_holds_0 4 rfl rfl)
theorem dX11_holds_7 : decode cX11_holds 7 = .ok (.invokevirtual 20, 3) := dk_182 0 20 (dk_at dksX11_holds_0 7 rfl rfl)
theorem dX11_holds_10 : decode cX11_holds 10 = .ok (.if_icmp .ge 46, 3) := dk_162 0 46 (dk_at dksX11_holds_0 10 rfl rfl)
theorem dX11_holds_13 : decode cX11_holds 13 = .ok (.aload_n 0, 1) := dk_42 (dk_at dksX11_holds_0 13 rfl rfl)
theorem dX11_holds_14 : decode cX11_holds 14 = .ok (.getfield 10, 3) := dk_180 0 10 (dk_at dksX11_holds_0 14 rfl rfl)
theorem dX11_holds_17 : decode cX11_holds 17 = .ok (.iload_n 2, 1) := dk_28 (dk_at dksX11_holds_0 17 rfl rfl)
theorem dX11_holds_18 : decode cX11_holds 18 = .ok (.invokevirtual 24, 3) := dk_182 0 24 (dk_at dksX11_holds_0 18 rfl rfl)
theorem dX11_holds_21 : decode cX11_holds 21 = .ok (.checkcast 28, 3) := dk_192 0 28 (dk_at dksX11_holds_0 21 rfl rfl)
theorem dX11_holds_24 : decode cX11_holds 24 = .ok (.aload_n 1, 1) := dk_43 (dk_at dksX11_holds_1 0 rfl rfl)
theorem dX11_holds_25 : decode cX11_holds 25 = .ok (.invokeinterface 30 2, 5) := by decide +kernel
theorem dX11_holds_30 : decode cX11_holds 30 = .ok (.aload_n 0, 1) := dk_42 (dk_at dksX11_holds_1 6 rfl rfl)
theorem dX11_holds_31 : decode cX11_holds 31 = .ok (.getfield 16, 3) := dk_180 0 16 (dk_at dksX11_holds_1 7 rfl rfl)
theorem dX11_holds_34 : decode cX11_holds 34 = .ok (.if_icmp .eq 16, 3) := dk_159 0 16 (dk_at dksX11_holds_1 10 rfl rfl)
theorem dX11_holds_37 : decode cX11_holds 37 = .ok (.aload_n 0, 1) := dk_42 (dk_at dksX11_holds_1 13 rfl rfl)
theorem dX11_holds_38 : decode cX11_holds 38 = .ok (.getfield 16, 3) := dk_180 0 16 (dk_at dksX11_holds_1 14 rfl rfl)
theorem dX11_holds_41 : decode cX11_holds 41 = .ok (.ifCond .ne 7, 3) := dk_154 0 7 (dk_at dksX11_holds_1 17 rfl rfl)
theorem dX11_holds_44 : decode cX11_holds 44 = .ok (.iconst 1, 1) := dk_4 (dk_at dksX11_holds_1 20 rfl rfl)
theorem dX11_holds_45 : decode cX11_holds 45 = .ok (.goto 4, 3) := dk_167 0 4 (dk_at dksX11_holds_1 21 rfl rfl)
theorem dX11_holds_48 : decode cX11_holds 48 = .ok (.iconst 0, 1) := dk_3 (dk_at dksX11_holds_2 0 rfl rfl)
theorem dX11_holds_49 : decode cX11_holds 49 = .ok (.ireturn, 1) := dk_172 (dk_at dksX11_holds_2 1 rfl rfl)
theorem dX11_holds_50 : decode cX11_holds 50 = .ok (.iinc 2 1, 3) := dk_132 2 1 (dk_at dksX11_holds_2 2 rfl rfl)
theorem dX11_holds_53 : decode cX11_holds 53 = .ok (.goto (-51), 3) := dk_167 255 205 (dk_at dksX11_holds_2 5 rfl rfl)
theorem dX11_holds_56 : decode cX11_holds 56 = .ok (.aload_n 0, 1) := dk_42 (dk_at dksX11_holds_2 8 rfl rfl)
theorem dX11_holds_57 : decode cX11_holds 57 = .ok (.getfield 16, 3) := dk_180 0 16 (dk_at dksX11_holds_2 9 rfl rfl)
theorem dX11_holds_60 : decode cX11_holds 60 = .ok (.ireturn, 1) := dk_172 (dk_at dksX11_holds_2 12 rfl rfl)
abbrev cX11_init : ByteArray := prog_12_method_1_code
def yX11_init : MethodName := ⟨RX11, "<init>", "(Z)V"⟩
def dkwX11_init_0 : List UInt8 := [42, 183, 0, 1, 42, 187, 0, 7, 89, 183, 0, 9, 181, 0, 10, 42, 27, 181, 0, 16, 177]
abbrev dktX11_init_0 : List UInt8 := dkwX11_init_0 ++ []
theorem dksX11_init_0 : cX11_init.data.toList.drop 0 = dktX11_init_0 := by decide +kernel
theorem dX11_init_0 : decode cX11_init 0 = .ok (.aload_n 0, 1) := dk_42 (dk_at dksX11_init_0 0 rfl rfl)
theorem dX11_init_1 : decode cX11_init 1 = .ok (.invokespecial 1, 3) := dk_183 0 1 (dk_at dksX11_init_0 1 rfl rfl)
theorem dX11_init_4 : decode cX11_init 4 = .ok (.aload_n 0, 1) := dk_42 (dk_at dksX11_init_0 4 rfl rfl)
theorem dX11_init_5 : decode cX11_init 5 = .ok (.new 7, 3) := dk_187 0 7 (dk_at dksX11_init_0 5 rfl rfl)
theorem dX11_init_8 : decode cX11_init 8 = .ok (.dup, 1) := dk_89 (dk_at dksX11_init_0 8 rfl rfl)
theorem dX11_init_9 : decode cX11_init 9 = .ok (.invokespecial 9, 3) := dk_183 0 9 (dk_at dksX11_init_0 9 rfl rfl)
theorem dX11_init_12 : decode cX11_init 12 = .ok (.putfield 10, 3) := dk_181 0 10 (dk_at dksX11_init_0 12 rfl rfl)
theorem dX11_init_15 : decode cX11_init 15 = .ok (.aload_n 0, 1) := dk_42 (dk_at dksX11_init_0 15 rfl rfl)
theorem dX11_init_16 : decode cX11_init 16 = .ok (.iload_n 1, 1) := dk_27 (dk_at dksX11_init_0 16 rfl rfl)
theorem dX11_init_17 : decode cX11_init 17 = .ok (.putfield 16, 3) := dk_181 0 16 (dk_at dksX11_init_0 17 rfl rfl)
theorem dX11_init_20 : decode cX11_init 20 = .ok (.return_, 1) := dk_177 (dk_at dksX11_init_0 20 rfl rfl)
theorem q175 : (Jvm.Cond.initialized "VisitingHours$Row") ∈ lw_all := lw_g (lw_at lw_m1 32 rfl) rfl
theorem q601 : (Jvm.Cond.castable "VisitingHours$Row" "VisitingHours$Cond") ∈ lw_tbl := lw_at lw_m2 218 rfl
theorem q602 : (Jvm.Cond.selects "VisitingHours$Row" ({ cls := "VisitingHours$Cond", name := "holds", desc := "(LVisitingHours$Scene;)Z" } : Jvm.MethodName) ({ cls := "VisitingHours$Row", name := "holds", desc := "(LVisitingHours$Scene;)Z" } : Jvm.MethodName)) ∈ lw_all := lw_g (lw_at lw_m2 219 rfl) rfl
theorem q603 : (Jvm.Cond.unhidden "VisitingHours$Row" "holds" "(LVisitingHours$Scene;)Z") ∈ lw_tbl := lw_at lw_m2 220 rfl
theorem q604 : (Jvm.Cond.instanceMethod ({ cls := "VisitingHours$Row", name := "holds", desc := "(LVisitingHours$Scene;)Z" } : Jvm.MethodName)) ∈ lw_all := lw_g (lw_at lw_m2 221 rfl) rfl
theorem q605 : (Jvm.Cond.publicMethod ({ cls := "VisitingHours$Row", name := "holds", desc := "(LVisitingHours$Scene;)Z" } : Jvm.MethodName)) ∈ lw_tbl := lw_at lw_m2 222 rfl
theorem q606 : (Jvm.Cond.code ({ cls := "VisitingHours$Row", name := "holds", desc := "(LVisitingHours$Scene;)Z" } : Jvm.MethodName) prog_12_method_2_code (3 : Nat) (Option.some Jvm.ClassFile.FieldType.boolean)) ∈ lw_all := lw_g (lw_at lw_m2 223 rfl) rfl
theorem q607 : (Jvm.Cond.methodLink "VisitingHours$Row" (20 : Nat) ({ cls := "java/util/ArrayList", name := "size", desc := "()I" } : Jvm.MethodName)) ∈ lw_all := lw_g (lw_at lw_m2 224 rfl) rfl
theorem q608 : (Jvm.Cond.methodLink "VisitingHours$Row" (24 : Nat) ({ cls := "java/util/ArrayList", name := "get", desc := "(I)Ljava/lang/Object;" } : Jvm.MethodName)) ∈ lw_all := lw_g (lw_at lw_m2 225 rfl) rfl
theorem q609 : (Jvm.Cond.classLink "VisitingHours$Row" (28 : Nat) "VisitingHours$Cond") ∈ lw_all := lw_g (lw_at lw_m2 226 rfl) rfl
theorem q610 : (Jvm.Cond.interfaceEntry "VisitingHours$Row" (30 : Nat)) ∈ lw_tbl := lw_at lw_m2 227 rfl
theorem q611 : (Jvm.Cond.methodLink "VisitingHours$Row" (30 : Nat) ({ cls := "VisitingHours$Cond", name := "holds", desc := "(LVisitingHours$Scene;)Z" } : Jvm.MethodName)) ∈ lw_all := lw_g (lw_at lw_m2 228 rfl) rfl
theorem q1437 : (Jvm.Cond.instantiable "VisitingHours$Row" (2 : Nat)) ∈ lw_all := lw_g (lw_at lw_m6 94 rfl) rfl
theorem q1439 : (Jvm.Cond.instanceMethod ({ cls := "VisitingHours$Row", name := "<init>", desc := "(Z)V" } : Jvm.MethodName)) ∈ lw_all := lw_g (lw_at lw_m6 96 rfl) rfl
theorem q1440 : (Jvm.Cond.code ({ cls := "VisitingHours$Row", name := "<init>", desc := "(Z)V" } : Jvm.MethodName) prog_12_method_1_code (2 : Nat) (Option.none : Option Jvm.ClassFile.FieldType)) ∈ lw_all := lw_g (lw_at lw_m6 97 rfl) rfl
theorem q1441 : (Jvm.Cond.methodLink "VisitingHours$Row" (1 : Nat) ({ cls := "java/lang/Object", name := "<init>", desc := "()V" } : Jvm.MethodName)) ∈ lw_all := lw_g (lw_at lw_m6 98 rfl) rfl
theorem q1442 : (Jvm.Cond.classLink "VisitingHours$Row" (7 : Nat) "java/util/ArrayList") ∈ lw_all := lw_g (lw_at lw_m6 99 rfl) rfl
theorem q1443 : (Jvm.Cond.methodLink "VisitingHours$Row" (9 : Nat) ({ cls := "java/util/ArrayList", name := "<init>", desc := "()V" } : Jvm.MethodName)) ∈ lw_all := lw_g (lw_at lw_m6 100 rfl) rfl
theorem q1444 : (Jvm.Cond.fieldLink "VisitingHours$Row" (16 : Nat) "VisitingHours$Row" "all" "Z") ∈ lw_all := lw_g (lw_at lw_m6 101 rfl) rfl
theorem q1445 : (Jvm.Cond.fieldLink "VisitingHours$Row" (10 : Nat) "VisitingHours$Row" "row" "Ljava/util/ArrayList;") ∈ lw_all := lw_g (lw_at lw_m6 102 rfl) rfl
theorem q1447 : (Jvm.Cond.laysFinal "VisitingHours$Row" "VisitingHours$Row" "all" "Z") ∈ lw_all := lw_g (lw_at lw_m6 104 rfl) rfl
theorem q1448 : (Jvm.Cond.soleField "VisitingHours$Row" "all") ∈ lw_all := lw_g (lw_at lw_m6 105 rfl) rfl
theorem q1449 : (Jvm.Cond.laysFinal "VisitingHours$Row" "VisitingHours$Row" "row" "Ljava/util/ArrayList;") ∈ lw_all := lw_g (lw_at lw_m6 106 rfl) rfl
theorem q1450 : (Jvm.Cond.soleField "VisitingHours$Row" "row") ∈ lw_all := lw_g (lw_at lw_m6 107 rfl) rfl
theorem q1451 : (Jvm.Cond.superclass "VisitingHours$Row" "java/lang/Object") ∈ lw_all := lw_g (lw_at lw_m6 108 rfl) rfl
theorem q1577 : (Jvm.Cond.selects "VisitingHours$Row" ({ cls := "java/lang/Object", name := "getClass", desc := "()Ljava/lang/Class;" } : Jvm.MethodName) ({ cls := "java/lang/Object", name := "getClass", desc := "()Ljava/lang/Class;" } : Jvm.MethodName)) ∈ lw_all := lw_g (lw_at lw_m6 234 rfl) rfl
theorem q2817 : (Jvm.Cond.castable "VisitingHours$Row" "java/lang/Object") ∈ lw_tbl := lw_at lw_m12 34 rfl
theorem in_X11 : ∀ w ∈ wsX110, w ∈ lw_all := lw_in wsX110 [1447, 1449] (by decide +kernel) (by decide +kernel)
/-! VisitingHours$Not -/
set_option maxRecDepth 100000
def RX12 : String := "VisitingHours$Not"
def TX12 : u_T := fun k => match k with
  | _ => ("VisitingHours$Not", "a", "LVisitingHours$Cond;", true)
def tyX12 : Nat → FieldType := fun k => match k with
  | _ => .object "VisitingHours$Cond"
abbrev wsX120 : List Cond := u_ws RX12 TX12 1
theorem nmX12 : ∀ a, a < 1 → ∀ b, b < 1 → a ≠ b → (TX12 a).2.1 ≠ (TX12 b).2.1 := by decide +kernel
theorem tyX12_ok : ∀ k, k < 1 → parseFieldDescriptor (TX12 k).2.2.1 = some (tyX12 k) := by decide +kernel
abbrev cX12_holds : ByteArray := prog_8_method_2_code
def yX12_holds : MethodName := ⟨RX12, "holds", "(LVisitingHours$Scene;)Z"⟩
def dkwX12_holds_0 : List UInt8 := [42, 180, 0, 7, 43, 185, 0, 13, 2, 0, 154, 0, 7, 4, 167, 0, 4, 3, 172]
abbrev dktX12_holds_0 : List UInt8 := dkwX12_holds_0 ++ []
theorem dksX12_holds_0 : cX12_holds.data.toList.drop 0 = dktX12_holds_0 := by decide +kernel
theorem dX12_holds_0 : decode cX12_holds 0 = .ok (.aload_n 0, 1) := dk_42 (dk_at dksX12_holds_0 0 rfl rfl)
theorem dX12_holds_1 : decode cX12_holds 1 = .ok (.getfield 7, 3) := dk_180 0 7 (dk_at dksX12_holds_0 1 rfl rfl)
theorem dX12_holds_4 : decode cX12_holds 4 = .ok (.aload_n 1, 1) := dk_43 (dk_at dksX12_holds_0 4 rfl rfl)
theorem dX12_holds_5 : decode cX12_holds 5 = .ok (.invokeinterface 13 2, 5) := by decide +kernel
theorem dX12_holds_10 : decode cX12_holds 10 = .ok (.ifCond .ne 7, 3) := dk_154 0 7 (dk_at dksX12_holds_0 10 rfl rfl)
theorem dX12_holds_13 : decode cX12_holds 13 = .ok (.iconst 1, 1) := dk_4 (dk_at dksX12_holds_0 13 rfl rfl)
theorem dX12_holds_14 : decode cX12_holds 14 = .ok (.goto 4, 3) := dk_167 0 4 (dk_at dksX12_holds_0 14 rfl rfl)
theorem dX12_holds_17 : decode cX12_holds 17 = .ok (.iconst 0, 1) := dk_3 (dk_at dksX12_holds_0 17 rfl rfl)
theorem dX12_holds_18 : decode cX12_holds 18 = .ok (.ireturn, 1) := dk_172 (dk_at dksX12_holds_0 18 rfl rfl)
abbrev cX12_init : ByteArray := prog_8_method_1_code
def yX12_init : MethodName := ⟨RX12, "<init>", "(LVisitingHours$Cond;)V"⟩
def dkwX12_init_0 : List UInt8 := [42, 183, 0, 1, 42, 43, 181, 0, 7, 177]
abbrev dktX12_init_0 : List UInt8 := dkwX12_init_0 ++ []
theorem dksX12_init_0 : cX12_init.data.toList.drop 0 = dktX12_init_0 := by decide +kernel
theorem dX12_init_0 : decode cX12_init 0 = .ok (.aload_n 0, 1) := dk_42 (dk_at dksX12_init_0 0 rfl rfl)
theorem dX12_init_1 : decode cX12_init 1 = .ok (.invokespecial 1, 3) := dk_183 0 1 (dk_at dksX12_init_0 1 rfl rfl)
theorem dX12_init_4 : decode cX12_init 4 = .ok (.aload_n 0, 1) := dk_42 (dk_at dksX12_init_0 4 rfl rfl)
theorem dX12_init_5 : decode cX12_init 5 = .ok (.aload_n 1, 1) := dk_43 (dk_at dksX12_init_0 5 rfl rfl)
theorem dX12_init_6 : decode cX12_init 6 = .ok (.putfield 7, 3) := dk_181 0 7 (dk_at dksX12_init_0 6 rfl rfl)
theorem dX12_init_9 : decode cX12_init 9 = .ok (.return_, 1) := dk_177 (dk_at dksX12_init_0 9 rfl rfl)
theorem q176 : (Jvm.Cond.initialized "VisitingHours$Not") ∈ lw_all := lw_g (lw_at lw_m1 33 rfl) rfl
theorem q593 : (Jvm.Cond.castable "VisitingHours$Not" "VisitingHours$Cond") ∈ lw_tbl := lw_at lw_m2 210 rfl
theorem q594 : (Jvm.Cond.selects "VisitingHours$Not" ({ cls := "VisitingHours$Cond", name := "holds", desc := "(LVisitingHours$Scene;)Z" } : Jvm.MethodName) ({ cls := "VisitingHours$Not", name := "holds", desc := "(LVisitingHours$Scene;)Z" } : Jvm.MethodName)) ∈ lw_all := lw_g (lw_at lw_m2 211 rfl) rfl
theorem q595 : (Jvm.Cond.unhidden "VisitingHours$Not" "holds" "(LVisitingHours$Scene;)Z") ∈ lw_tbl := lw_at lw_m2 212 rfl
theorem q596 : (Jvm.Cond.instanceMethod ({ cls := "VisitingHours$Not", name := "holds", desc := "(LVisitingHours$Scene;)Z" } : Jvm.MethodName)) ∈ lw_all := lw_g (lw_at lw_m2 213 rfl) rfl
theorem q597 : (Jvm.Cond.publicMethod ({ cls := "VisitingHours$Not", name := "holds", desc := "(LVisitingHours$Scene;)Z" } : Jvm.MethodName)) ∈ lw_tbl := lw_at lw_m2 214 rfl
theorem q598 : (Jvm.Cond.code ({ cls := "VisitingHours$Not", name := "holds", desc := "(LVisitingHours$Scene;)Z" } : Jvm.MethodName) prog_8_method_2_code (2 : Nat) (Option.some Jvm.ClassFile.FieldType.boolean)) ∈ lw_all := lw_g (lw_at lw_m2 215 rfl) rfl
theorem q599 : (Jvm.Cond.interfaceEntry "VisitingHours$Not" (13 : Nat)) ∈ lw_tbl := lw_at lw_m2 216 rfl
theorem q600 : (Jvm.Cond.methodLink "VisitingHours$Not" (13 : Nat) ({ cls := "VisitingHours$Cond", name := "holds", desc := "(LVisitingHours$Scene;)Z" } : Jvm.MethodName)) ∈ lw_all := lw_g (lw_at lw_m2 217 rfl) rfl
theorem q1470 : (Jvm.Cond.instantiable "VisitingHours$Not" (1 : Nat)) ∈ lw_all := lw_g (lw_at lw_m6 127 rfl) rfl
theorem q1472 : (Jvm.Cond.instanceMethod ({ cls := "VisitingHours$Not", name := "<init>", desc := "(LVisitingHours$Cond;)V" } : Jvm.MethodName)) ∈ lw_all := lw_g (lw_at lw_m6 129 rfl) rfl
theorem q1473 : (Jvm.Cond.code ({ cls := "VisitingHours$Not", name := "<init>", desc := "(LVisitingHours$Cond;)V" } : Jvm.MethodName) prog_8_method_1_code (2 : Nat) (Option.none : Option Jvm.ClassFile.FieldType)) ∈ lw_all := lw_g (lw_at lw_m6 130 rfl) rfl
theorem q1474 : (Jvm.Cond.methodLink "VisitingHours$Not" (1 : Nat) ({ cls := "java/lang/Object", name := "<init>", desc := "()V" } : Jvm.MethodName)) ∈ lw_all := lw_g (lw_at lw_m6 131 rfl) rfl
theorem q1475 : (Jvm.Cond.fieldLink "VisitingHours$Not" (7 : Nat) "VisitingHours$Not" "a" "LVisitingHours$Cond;") ∈ lw_all := lw_g (lw_at lw_m6 132 rfl) rfl
theorem q1476 : (Jvm.Cond.laysFinal "VisitingHours$Not" "VisitingHours$Not" "a" "LVisitingHours$Cond;") ∈ lw_all := lw_g (lw_at lw_m6 133 rfl) rfl
theorem q1477 : (Jvm.Cond.soleField "VisitingHours$Not" "a") ∈ lw_all := lw_g (lw_at lw_m6 134 rfl) rfl
theorem q1478 : (Jvm.Cond.superclass "VisitingHours$Not" "java/lang/Object") ∈ lw_all := lw_g (lw_at lw_m6 135 rfl) rfl
theorem q1573 : (Jvm.Cond.selects "VisitingHours$Not" ({ cls := "java/lang/Object", name := "getClass", desc := "()Ljava/lang/Class;" } : Jvm.MethodName) ({ cls := "java/lang/Object", name := "getClass", desc := "()Ljava/lang/Class;" } : Jvm.MethodName)) ∈ lw_all := lw_g (lw_at lw_m6 230 rfl) rfl
theorem q2818 : (Jvm.Cond.castable "VisitingHours$Not" "java/lang/Object") ∈ lw_tbl := lw_at lw_m12 35 rfl
theorem in_X12 : ∀ w ∈ wsX120, w ∈ lw_all := lw_in wsX120 [1476] (by decide +kernel) (by decide +kernel)
/-! VisitingHours$Tag -/
set_option maxRecDepth 100000
def RX13 : String := "VisitingHours$Tag"
def TX13 : u_T := fun k => match k with
  | _ => ("VisitingHours$Tag", "marked", "Z", true)
def tyX13 : Nat → FieldType := fun k => match k with
  | _ => .boolean
abbrev wsX130 : List Cond := u_ws RX13 TX13 1
theorem nmX13 : ∀ a, a < 1 → ∀ b, b < 1 → a ≠ b → (TX13 a).2.1 ≠ (TX13 b).2.1 := by decide +kernel
theorem tyX13_ok : ∀ k, k < 1 → parseFieldDescriptor (TX13 k).2.2.1 = some (tyX13 k) := by decide +kernel
abbrev cX13_holds : ByteArray := prog_15_method_2_code
def yX13_holds : MethodName := ⟨RX13, "holds", "(LVisitingHours$Scene;)Z"⟩
def dkwX13_holds_0 : List UInt8 := [42, 180, 0, 7, 153, 0, 10, 43, 180, 0, 13, 167, 0, 7, 43, 180, 0, 16, 172]
abbrev dktX13_holds_0 : List UInt8 := dkwX13_holds_0 ++ []
theorem dksX13_holds_0 : cX13_holds.data.toList.drop 0 = dktX13_holds_0 := by decide +kernel
theorem dX13_holds_0 : decode cX13_holds 0 = .ok (.aload_n 0, 1) := dk_42 (dk_at dksX13_holds_0 0 rfl rfl)
theorem dX13_holds_1 : decode cX13_holds 1 = .ok (.getfield 7, 3) := dk_180 0 7 (dk_at dksX13_holds_0 1 rfl rfl)
theorem dX13_holds_4 : decode cX13_holds 4 = .ok (.ifCond .eq 10, 3) := dk_153 0 10 (dk_at dksX13_holds_0 4 rfl rfl)
theorem dX13_holds_7 : decode cX13_holds 7 = .ok (.aload_n 1, 1) := dk_43 (dk_at dksX13_holds_0 7 rfl rfl)
theorem dX13_holds_8 : decode cX13_holds 8 = .ok (.getfield 13, 3) := dk_180 0 13 (dk_at dksX13_holds_0 8 rfl rfl)
theorem dX13_holds_11 : decode cX13_holds 11 = .ok (.goto 7, 3) := dk_167 0 7 (dk_at dksX13_holds_0 11 rfl rfl)
theorem dX13_holds_14 : decode cX13_holds 14 = .ok (.aload_n 1, 1) := dk_43 (dk_at dksX13_holds_0 14 rfl rfl)
theorem dX13_holds_15 : decode cX13_holds 15 = .ok (.getfield 16, 3) := dk_180 0 16 (dk_at dksX13_holds_0 15 rfl rfl)
theorem dX13_holds_18 : decode cX13_holds 18 = .ok (.ireturn, 1) := dk_172 (dk_at dksX13_holds_0 18 rfl rfl)
abbrev cX13_init : ByteArray := prog_15_method_1_code
def yX13_init : MethodName := ⟨RX13, "<init>", "(Z)V"⟩
def dkwX13_init_0 : List UInt8 := [42, 183, 0, 1, 42, 27, 181, 0, 7, 177]
abbrev dktX13_init_0 : List UInt8 := dkwX13_init_0 ++ []
theorem dksX13_init_0 : cX13_init.data.toList.drop 0 = dktX13_init_0 := by decide +kernel
theorem dX13_init_0 : decode cX13_init 0 = .ok (.aload_n 0, 1) := dk_42 (dk_at dksX13_init_0 0 rfl rfl)
theorem dX13_init_1 : decode cX13_init 1 = .ok (.invokespecial 1, 3) := dk_183 0 1 (dk_at dksX13_init_0 1 rfl rfl)
theorem dX13_init_4 : decode cX13_init 4 = .ok (.aload_n 0, 1) := dk_42 (dk_at dksX13_init_0 4 rfl rfl)
theorem dX13_init_5 : decode cX13_init 5 = .ok (.iload_n 1, 1) := dk_27 (dk_at dksX13_init_0 5 rfl rfl)
theorem dX13_init_6 : decode cX13_init 6 = .ok (.putfield 7, 3) := dk_181 0 7 (dk_at dksX13_init_0 6 rfl rfl)
theorem dX13_init_9 : decode cX13_init 9 = .ok (.return_, 1) := dk_177 (dk_at dksX13_init_0 9 rfl rfl)
theorem q177 : (Jvm.Cond.initialized "VisitingHours$Tag") ∈ lw_all := lw_g (lw_at lw_m1 34 rfl) rfl
theorem q352 : (Jvm.Cond.fieldLinkNest "VisitingHours$Tag" (13 : Nat) "VisitingHours$Scene" "marked" "Z" "VisitingHours") ∈ lw_tbl := lw_at lw_m1 209 rfl
theorem q355 : (Jvm.Cond.fieldLinkNest "VisitingHours$Tag" (16 : Nat) "VisitingHours$Scene" "expected" "Z" "VisitingHours") ∈ lw_tbl := lw_at lw_m1 212 rfl
theorem q612 : (Jvm.Cond.castable "VisitingHours$Tag" "VisitingHours$Cond") ∈ lw_tbl := lw_at lw_m2 229 rfl
theorem q613 : (Jvm.Cond.selects "VisitingHours$Tag" ({ cls := "VisitingHours$Cond", name := "holds", desc := "(LVisitingHours$Scene;)Z" } : Jvm.MethodName) ({ cls := "VisitingHours$Tag", name := "holds", desc := "(LVisitingHours$Scene;)Z" } : Jvm.MethodName)) ∈ lw_all := lw_g (lw_at lw_m2 230 rfl) rfl
theorem q614 : (Jvm.Cond.unhidden "VisitingHours$Tag" "holds" "(LVisitingHours$Scene;)Z") ∈ lw_tbl := lw_at lw_m2 231 rfl
theorem q615 : (Jvm.Cond.instanceMethod ({ cls := "VisitingHours$Tag", name := "holds", desc := "(LVisitingHours$Scene;)Z" } : Jvm.MethodName)) ∈ lw_all := lw_g (lw_at lw_m2 232 rfl) rfl
theorem q616 : (Jvm.Cond.publicMethod ({ cls := "VisitingHours$Tag", name := "holds", desc := "(LVisitingHours$Scene;)Z" } : Jvm.MethodName)) ∈ lw_tbl := lw_at lw_m2 233 rfl
theorem q617 : (Jvm.Cond.code ({ cls := "VisitingHours$Tag", name := "holds", desc := "(LVisitingHours$Scene;)Z" } : Jvm.MethodName) prog_15_method_2_code (2 : Nat) (Option.some Jvm.ClassFile.FieldType.boolean)) ∈ lw_all := lw_g (lw_at lw_m2 234 rfl) rfl
theorem q1481 : (Jvm.Cond.instantiable "VisitingHours$Tag" (1 : Nat)) ∈ lw_all := lw_g (lw_at lw_m6 138 rfl) rfl
theorem q1483 : (Jvm.Cond.instanceMethod ({ cls := "VisitingHours$Tag", name := "<init>", desc := "(Z)V" } : Jvm.MethodName)) ∈ lw_all := lw_g (lw_at lw_m6 140 rfl) rfl
theorem q1484 : (Jvm.Cond.code ({ cls := "VisitingHours$Tag", name := "<init>", desc := "(Z)V" } : Jvm.MethodName) prog_15_method_1_code (2 : Nat) (Option.none : Option Jvm.ClassFile.FieldType)) ∈ lw_all := lw_g (lw_at lw_m6 141 rfl) rfl
theorem q1485 : (Jvm.Cond.methodLink "VisitingHours$Tag" (1 : Nat) ({ cls := "java/lang/Object", name := "<init>", desc := "()V" } : Jvm.MethodName)) ∈ lw_all := lw_g (lw_at lw_m6 142 rfl) rfl
theorem q1486 : (Jvm.Cond.fieldLink "VisitingHours$Tag" (7 : Nat) "VisitingHours$Tag" "marked" "Z") ∈ lw_all := lw_g (lw_at lw_m6 143 rfl) rfl
theorem q1487 : (Jvm.Cond.laysFinal "VisitingHours$Tag" "VisitingHours$Tag" "marked" "Z") ∈ lw_all := lw_g (lw_at lw_m6 144 rfl) rfl
theorem q1488 : (Jvm.Cond.soleField "VisitingHours$Tag" "marked") ∈ lw_all := lw_g (lw_at lw_m6 145 rfl) rfl
theorem q1489 : (Jvm.Cond.superclass "VisitingHours$Tag" "java/lang/Object") ∈ lw_all := lw_g (lw_at lw_m6 146 rfl) rfl
theorem q1580 : (Jvm.Cond.selects "VisitingHours$Tag" ({ cls := "java/lang/Object", name := "getClass", desc := "()Ljava/lang/Class;" } : Jvm.MethodName) ({ cls := "java/lang/Object", name := "getClass", desc := "()Ljava/lang/Class;" } : Jvm.MethodName)) ∈ lw_all := lw_g (lw_at lw_m6 237 rfl) rfl
theorem q2819 : (Jvm.Cond.castable "VisitingHours$Tag" "java/lang/Object") ∈ lw_tbl := lw_at lw_m12 36 rfl
theorem in_X13 : ∀ w ∈ wsX130, w ∈ lw_all := lw_in wsX130 [1487] (by decide +kernel) (by decide +kernel)
/-! VisitingHours$Sum -/
set_option maxRecDepth 100000
def RX14 : String := "VisitingHours$Sum"
def TX14 : u_T := fun k => match k with
  | _ => ("VisitingHours$Sum", "parts", "Ljava/util/ArrayList;", true)
def tyX14 : Nat → FieldType := fun k => match k with
  | _ => .object "java/util/ArrayList"
abbrev wsX140 : List Cond := u_ws RX14 TX14 1
theorem nmX14 : ∀ a, a < 1 → ∀ b, b < 1 → a ≠ b → (TX14 a).2.1 ≠ (TX14 b).2.1 := by decide +kernel
theorem tyX14_ok : ∀ k, k < 1 → parseFieldDescriptor (TX14 k).2.2.1 = some (tyX14 k) := by decide +kernel
abbrev cX14_in : ByteArray := prog_14_method_2_code
def yX14_in : MethodName := ⟨RX14, "in", "(LVisitingHours$Scene;)I"⟩
def dkwX14_in_1 : List UInt8 := [192, 0, 24, 43, 182, 0, 26, 96, 61, 132, 3, 1, 167, 255, 224, 28, 172]
abbrev dktX14_in_1 : List UInt8 := dkwX14_in_1 ++ []
def dkwX14_in_0 : List UInt8 := [3, 61, 3, 62, 29, 42, 180, 0, 10, 182, 0, 16, 162, 0, 27, 28, 42, 180, 0, 10, 29, 182, 0, 20]
abbrev dktX14_in_0 : List UInt8 := dkwX14_in_0 ++ dktX14_in_1
theorem dksX14_in_0 : cX14_in.data.toList.drop 0 = dktX14_in_0 := by decide +kernel
theorem dksX14_in_1 : cX14_in.data.toList.drop 24 = dktX14_in_1 := dk_seg dksX14_in_0 24 rfl rfl
theorem dX14_in_0 : decode cX14_in 0 = .ok (.iconst 0, 1) := dk_3 (dk_at dksX14_in_0 0 rfl rfl)
theorem dX14_in_1 : decode cX14_in 1 = .ok (.istore_n 2, 1) := dk_61 (dk_at dksX14_in_0 1 rfl rfl)
theorem dX14_in_2 : decode cX14_in 2 = .ok (.iconst 0, 1) := dk_3 (dk_at dksX14_in_0 2 rfl rfl)
theorem dX14_in_3 : decode cX14_in 3 = .ok (.istore_n 3, 1) := dk_62 (dk_at dksX14_in_0 3 rfl rfl)
theorem dX14_in_4 : decode cX14_in 4 = .ok (.iload_n 3, 1) := dk_29 (dk_at dksX14_in_0 4 rfl rfl)
theorem dX14_in_5 : decode cX14_in 5 = .ok (.aload_n 0, 1) := dk_42 (dk_at dksX14_in_0 5 rfl rfl)
theorem dX14_in_6 : decode cX14_in 6 = .ok (.getfield 10, 3) := dk_180 0 10 (dk_at dksX14_in_0 6 rfl rfl)
theorem dX14_in_9 : decode cX14_in 9 = .ok (.invokevirtual 16, 3) := dk_182 0 16 (dk_at dksX14_in_0 9 rfl rfl)
theorem dX14_in_12 : decode cX14_in 12 = .ok (.if_icmp .ge 27, 3) := dk_162 0 27 (dk_at dksX14_in_0 12 rfl rfl)
theorem dX14_in_15 : decode cX14_in 15 = .ok (.iload_n 2, 1) := dk_28 (dk_at dksX14_in_0 15 rfl rfl)
theorem dX14_in_16 : decode cX14_in 16 = .ok (.aload_n 0, 1) := dk_42 (dk_at dksX14_in_0 16 rfl rfl)
theorem dX14_in_17 : decode cX14_in 17 = .ok (.getfield 10, 3) := dk_180 0 10 (dk_at dksX14_in_0 17 rfl rfl)
theorem dX14_in_20 : decode cX14_in 20 = .ok (.iload_n 3, 1) := dk_29 (dk_at dksX14_in_0 20 rfl rfl)
theorem dX14_in_21 : decode cX14_in 21 = .ok (.invokevirtual 20, 3) := dk_182 0 20 (dk_at dksX14_in_0 21 rfl rfl)
theorem dX14_in_24 : decode cX14_in 24 = .ok (.checkcast 24, 3) := dk_192 0 24 (dk_at dksX14_in_1 0 rfl rfl)
theorem dX14_in_27 : decode cX14_in 27 = .ok (.aload_n 1, 1) := dk_43 (dk_at dksX14_in_1 3 rfl rfl)
theorem dX14_in_28 : decode cX14_in 28 = .ok (.invokevirtual 26, 3) := dk_182 0 26 (dk_at dksX14_in_1 4 rfl rfl)
theorem dX14_in_31 : decode cX14_in 31 = .ok (.iadd, 1) := dk_96 (dk_at dksX14_in_1 7 rfl rfl)
theorem dX14_in_32 : decode cX14_in 32 = .ok (.istore_n 2, 1) := dk_61 (dk_at dksX14_in_1 8 rfl rfl)
theorem dX14_in_33 : decode cX14_in 33 = .ok (.iinc 3 1, 3) := dk_132 3 1 (dk_at dksX14_in_1 9 rfl rfl)
theorem dX14_in_36 : decode cX14_in 36 = .ok (.goto (-32), 3) := dk_167 255 224 (dk_at dksX14_in_1 12 rfl rfl)
theorem dX14_in_39 : decode cX14_in 39 = .ok (.iload_n 2, 1) := dk_28 (dk_at dksX14_in_1 15 rfl rfl)
theorem dX14_in_40 : decode cX14_in 40 = .ok (.ireturn, 1) := dk_172 (dk_at dksX14_in_1 16 rfl rfl)
abbrev cX14_init : ByteArray := prog_14_method_1_code
def yX14_init : MethodName := ⟨RX14, "<init>", "()V"⟩
def dkwX14_init_0 : List UInt8 := [42, 183, 0, 1, 42, 187, 0, 7, 89, 183, 0, 9, 181, 0, 10, 177]
abbrev dktX14_init_0 : List UInt8 := dkwX14_init_0 ++ []
theorem dksX14_init_0 : cX14_init.data.toList.drop 0 = dktX14_init_0 := by decide +kernel
theorem dX14_init_0 : decode cX14_init 0 = .ok (.aload_n 0, 1) := dk_42 (dk_at dksX14_init_0 0 rfl rfl)
theorem dX14_init_1 : decode cX14_init 1 = .ok (.invokespecial 1, 3) := dk_183 0 1 (dk_at dksX14_init_0 1 rfl rfl)
theorem dX14_init_4 : decode cX14_init 4 = .ok (.aload_n 0, 1) := dk_42 (dk_at dksX14_init_0 4 rfl rfl)
theorem dX14_init_5 : decode cX14_init 5 = .ok (.new 7, 3) := dk_187 0 7 (dk_at dksX14_init_0 5 rfl rfl)
theorem dX14_init_8 : decode cX14_init 8 = .ok (.dup, 1) := dk_89 (dk_at dksX14_init_0 8 rfl rfl)
theorem dX14_init_9 : decode cX14_init 9 = .ok (.invokespecial 9, 3) := dk_183 0 9 (dk_at dksX14_init_0 9 rfl rfl)
theorem dX14_init_12 : decode cX14_init 12 = .ok (.putfield 10, 3) := dk_181 0 10 (dk_at dksX14_init_0 12 rfl rfl)
theorem dX14_init_15 : decode cX14_init 15 = .ok (.return_, 1) := dk_177 (dk_at dksX14_init_0 15 rfl rfl)
theorem q178 : (Jvm.Cond.initialized "VisitingHours$Sum") ∈ lw_all := lw_g (lw_at lw_m1 35 rfl) rfl
theorem q573 : (Jvm.Cond.instanceMethod ({ cls := "VisitingHours$Sum", name := "in", desc := "(LVisitingHours$Scene;)I" } : Jvm.MethodName)) ∈ lw_all := lw_g (lw_at lw_m2 190 rfl) rfl
theorem q574 : (Jvm.Cond.selects "VisitingHours$Sum" ({ cls := "VisitingHours$Sum", name := "in", desc := "(LVisitingHours$Scene;)I" } : Jvm.MethodName) ({ cls := "VisitingHours$Sum", name := "in", desc := "(LVisitingHours$Scene;)I" } : Jvm.MethodName)) ∈ lw_all := lw_g (lw_at lw_m2 191 rfl) rfl
theorem q575 : (Jvm.Cond.code ({ cls := "VisitingHours$Sum", name := "in", desc := "(LVisitingHours$Scene;)I" } : Jvm.MethodName) prog_14_method_2_code (4 : Nat) (Option.some Jvm.ClassFile.FieldType.int)) ∈ lw_all := lw_g (lw_at lw_m2 192 rfl) rfl
theorem q576 : (Jvm.Cond.methodLink "VisitingHours$Sum" (16 : Nat) ({ cls := "java/util/ArrayList", name := "size", desc := "()I" } : Jvm.MethodName)) ∈ lw_all := lw_g (lw_at lw_m2 193 rfl) rfl
theorem q577 : (Jvm.Cond.methodLink "VisitingHours$Sum" (20 : Nat) ({ cls := "java/util/ArrayList", name := "get", desc := "(I)Ljava/lang/Object;" } : Jvm.MethodName)) ∈ lw_all := lw_g (lw_at lw_m2 194 rfl) rfl
theorem q578 : (Jvm.Cond.classLink "VisitingHours$Sum" (24 : Nat) "VisitingHours$Part") ∈ lw_all := lw_g (lw_at lw_m2 195 rfl) rfl
theorem q579 : (Jvm.Cond.methodLink "VisitingHours$Sum" (26 : Nat) ({ cls := "VisitingHours$Part", name := "in", desc := "(LVisitingHours$Scene;)I" } : Jvm.MethodName)) ∈ lw_all := lw_g (lw_at lw_m2 196 rfl) rfl
theorem q1496 : (Jvm.Cond.instantiable "VisitingHours$Sum" (1 : Nat)) ∈ lw_all := lw_g (lw_at lw_m6 153 rfl) rfl
theorem q1498 : (Jvm.Cond.instanceMethod ({ cls := "VisitingHours$Sum", name := "<init>", desc := "()V" } : Jvm.MethodName)) ∈ lw_all := lw_g (lw_at lw_m6 155 rfl) rfl
theorem q1499 : (Jvm.Cond.code ({ cls := "VisitingHours$Sum", name := "<init>", desc := "()V" } : Jvm.MethodName) prog_14_method_1_code (1 : Nat) (Option.none : Option Jvm.ClassFile.FieldType)) ∈ lw_all := lw_g (lw_at lw_m6 156 rfl) rfl
theorem q1500 : (Jvm.Cond.methodLink "VisitingHours$Sum" (1 : Nat) ({ cls := "java/lang/Object", name := "<init>", desc := "()V" } : Jvm.MethodName)) ∈ lw_all := lw_g (lw_at lw_m6 157 rfl) rfl
theorem q1501 : (Jvm.Cond.classLink "VisitingHours$Sum" (7 : Nat) "java/util/ArrayList") ∈ lw_all := lw_g (lw_at lw_m6 158 rfl) rfl
theorem q1502 : (Jvm.Cond.methodLink "VisitingHours$Sum" (9 : Nat) ({ cls := "java/util/ArrayList", name := "<init>", desc := "()V" } : Jvm.MethodName)) ∈ lw_all := lw_g (lw_at lw_m6 159 rfl) rfl
theorem q1503 : (Jvm.Cond.fieldLink "VisitingHours$Sum" (10 : Nat) "VisitingHours$Sum" "parts" "Ljava/util/ArrayList;") ∈ lw_all := lw_g (lw_at lw_m6 160 rfl) rfl
theorem q1505 : (Jvm.Cond.laysFinal "VisitingHours$Sum" "VisitingHours$Sum" "parts" "Ljava/util/ArrayList;") ∈ lw_all := lw_g (lw_at lw_m6 162 rfl) rfl
theorem q1506 : (Jvm.Cond.soleField "VisitingHours$Sum" "parts") ∈ lw_all := lw_g (lw_at lw_m6 163 rfl) rfl
theorem q1507 : (Jvm.Cond.superclass "VisitingHours$Sum" "java/lang/Object") ∈ lw_all := lw_g (lw_at lw_m6 164 rfl) rfl
theorem q1579 : (Jvm.Cond.selects "VisitingHours$Sum" ({ cls := "java/lang/Object", name := "getClass", desc := "()Ljava/lang/Class;" } : Jvm.MethodName) ({ cls := "java/lang/Object", name := "getClass", desc := "()Ljava/lang/Class;" } : Jvm.MethodName)) ∈ lw_all := lw_g (lw_at lw_m6 236 rfl) rfl
theorem q2820 : (Jvm.Cond.castable "VisitingHours$Sum" "java/lang/Object") ∈ lw_tbl := lw_at lw_m12 37 rfl
theorem in_X14 : ∀ w ∈ wsX140, w ∈ lw_all := lw_in wsX140 [1505] (by decide +kernel) (by decide +kernel)
/-! VisitingHours$Part -/
set_option maxRecDepth 100000
def RX15 : String := "VisitingHours$Part"
def TX15 : u_T := fun k => match k with
  | 0 => ("VisitingHours$Part", "n", "I", true)
  | _ => ("VisitingHours$Part", "fact", "LVisitingHours$Fact;", true)
def tyX15 : Nat → FieldType := fun k => match k with
  | 0 => .int
  | _ => .object "VisitingHours$Fact"
abbrev wsX150 : List Cond := u_ws RX15 TX15 2
theorem nmX15 : ∀ a, a < 2 → ∀ b, b < 2 → a ≠ b → (TX15 a).2.1 ≠ (TX15 b).2.1 := by decide +kernel
theorem tyX15_ok : ∀ k, k < 2 → parseFieldDescriptor (TX15 k).2.2.1 = some (tyX15 k) := by decide +kernel
abbrev cX15_in : ByteArray := prog_10_method_2_code
def yX15_in : MethodName := ⟨RX15, "in", "(LVisitingHours$Scene;)I"⟩
def dkwX15_in_0 : List UInt8 := [42, 180, 0, 13, 199, 0, 10, 42, 180, 0, 7, 167, 0, 11, 43, 42, 180, 0, 13, 182, 0, 17, 172]
abbrev dktX15_in_0 : List UInt8 := dkwX15_in_0 ++ []
theorem dksX15_in_0 : cX15_in.data.toList.drop 0 = dktX15_in_0 := by decide +kernel
theorem dX15_in_0 : decode cX15_in 0 = .ok (.aload_n 0, 1) := dk_42 (dk_at dksX15_in_0 0 rfl rfl)
theorem dX15_in_1 : decode cX15_in 1 = .ok (.getfield 13, 3) := dk_180 0 13 (dk_at dksX15_in_0 1 rfl rfl)
theorem dX15_in_4 : decode cX15_in 4 = .ok (.ifnonnull 10, 3) := dk_199 0 10 (dk_at dksX15_in_0 4 rfl rfl)
theorem dX15_in_7 : decode cX15_in 7 = .ok (.aload_n 0, 1) := dk_42 (dk_at dksX15_in_0 7 rfl rfl)
theorem dX15_in_8 : decode cX15_in 8 = .ok (.getfield 7, 3) := dk_180 0 7 (dk_at dksX15_in_0 8 rfl rfl)
theorem dX15_in_11 : decode cX15_in 11 = .ok (.goto 11, 3) := dk_167 0 11 (dk_at dksX15_in_0 11 rfl rfl)
theorem dX15_in_14 : decode cX15_in 14 = .ok (.aload_n 1, 1) := dk_43 (dk_at dksX15_in_0 14 rfl rfl)
theorem dX15_in_15 : decode cX15_in 15 = .ok (.aload_n 0, 1) := dk_42 (dk_at dksX15_in_0 15 rfl rfl)
theorem dX15_in_16 : decode cX15_in 16 = .ok (.getfield 13, 3) := dk_180 0 13 (dk_at dksX15_in_0 16 rfl rfl)
theorem dX15_in_19 : decode cX15_in 19 = .ok (.invokevirtual 17, 3) := dk_182 0 17 (dk_at dksX15_in_0 19 rfl rfl)
theorem dX15_in_22 : decode cX15_in 22 = .ok (.ireturn, 1) := dk_172 (dk_at dksX15_in_0 22 rfl rfl)
abbrev cX15_init : ByteArray := prog_10_method_1_code
def yX15_init : MethodName := ⟨RX15, "<init>", "(ILVisitingHours$Fact;)V"⟩
def dkwX15_init_0 : List UInt8 := [42, 183, 0, 1, 42, 27, 181, 0, 7, 42, 44, 181, 0, 13, 177]
abbrev dktX15_init_0 : List UInt8 := dkwX15_init_0 ++ []
theorem dksX15_init_0 : cX15_init.data.toList.drop 0 = dktX15_init_0 := by decide +kernel
theorem dX15_init_0 : decode cX15_init 0 = .ok (.aload_n 0, 1) := dk_42 (dk_at dksX15_init_0 0 rfl rfl)
theorem dX15_init_1 : decode cX15_init 1 = .ok (.invokespecial 1, 3) := dk_183 0 1 (dk_at dksX15_init_0 1 rfl rfl)
theorem dX15_init_4 : decode cX15_init 4 = .ok (.aload_n 0, 1) := dk_42 (dk_at dksX15_init_0 4 rfl rfl)
theorem dX15_init_5 : decode cX15_init 5 = .ok (.iload_n 1, 1) := dk_27 (dk_at dksX15_init_0 5 rfl rfl)
theorem dX15_init_6 : decode cX15_init 6 = .ok (.putfield 7, 3) := dk_181 0 7 (dk_at dksX15_init_0 6 rfl rfl)
theorem dX15_init_9 : decode cX15_init 9 = .ok (.aload_n 0, 1) := dk_42 (dk_at dksX15_init_0 9 rfl rfl)
theorem dX15_init_10 : decode cX15_init 10 = .ok (.aload_n 2, 1) := dk_44 (dk_at dksX15_init_0 10 rfl rfl)
theorem dX15_init_11 : decode cX15_init 11 = .ok (.putfield 13, 3) := dk_181 0 13 (dk_at dksX15_init_0 11 rfl rfl)
theorem dX15_init_14 : decode cX15_init 14 = .ok (.return_, 1) := dk_177 (dk_at dksX15_init_0 14 rfl rfl)
theorem q179 : (Jvm.Cond.initialized "VisitingHours$Part") ∈ lw_all := lw_g (lw_at lw_m1 36 rfl) rfl
theorem q580 : (Jvm.Cond.instanceMethod ({ cls := "VisitingHours$Part", name := "in", desc := "(LVisitingHours$Scene;)I" } : Jvm.MethodName)) ∈ lw_all := lw_g (lw_at lw_m2 197 rfl) rfl
theorem q581 : (Jvm.Cond.selects "VisitingHours$Part" ({ cls := "VisitingHours$Part", name := "in", desc := "(LVisitingHours$Scene;)I" } : Jvm.MethodName) ({ cls := "VisitingHours$Part", name := "in", desc := "(LVisitingHours$Scene;)I" } : Jvm.MethodName)) ∈ lw_all := lw_g (lw_at lw_m2 198 rfl) rfl
theorem q582 : (Jvm.Cond.code ({ cls := "VisitingHours$Part", name := "in", desc := "(LVisitingHours$Scene;)I" } : Jvm.MethodName) prog_10_method_2_code (2 : Nat) (Option.some Jvm.ClassFile.FieldType.int)) ∈ lw_all := lw_g (lw_at lw_m2 199 rfl) rfl
theorem q583 : (Jvm.Cond.methodLink "VisitingHours$Part" (17 : Nat) ({ cls := "VisitingHours$Scene", name := "of", desc := "(LVisitingHours$Fact;)I" } : Jvm.MethodName)) ∈ lw_all := lw_g (lw_at lw_m2 200 rfl) rfl
theorem q1517 : (Jvm.Cond.instantiable "VisitingHours$Part" (2 : Nat)) ∈ lw_all := lw_g (lw_at lw_m6 174 rfl) rfl
theorem q1519 : (Jvm.Cond.instanceMethod ({ cls := "VisitingHours$Part", name := "<init>", desc := "(ILVisitingHours$Fact;)V" } : Jvm.MethodName)) ∈ lw_all := lw_g (lw_at lw_m6 176 rfl) rfl
theorem q1520 : (Jvm.Cond.code ({ cls := "VisitingHours$Part", name := "<init>", desc := "(ILVisitingHours$Fact;)V" } : Jvm.MethodName) prog_10_method_1_code (3 : Nat) (Option.none : Option Jvm.ClassFile.FieldType)) ∈ lw_all := lw_g (lw_at lw_m6 177 rfl) rfl
theorem q1521 : (Jvm.Cond.methodLink "VisitingHours$Part" (1 : Nat) ({ cls := "java/lang/Object", name := "<init>", desc := "()V" } : Jvm.MethodName)) ∈ lw_all := lw_g (lw_at lw_m6 178 rfl) rfl
theorem q1522 : (Jvm.Cond.fieldLink "VisitingHours$Part" (7 : Nat) "VisitingHours$Part" "n" "I") ∈ lw_all := lw_g (lw_at lw_m6 179 rfl) rfl
theorem q1523 : (Jvm.Cond.fieldLink "VisitingHours$Part" (13 : Nat) "VisitingHours$Part" "fact" "LVisitingHours$Fact;") ∈ lw_all := lw_g (lw_at lw_m6 180 rfl) rfl
theorem q1524 : (Jvm.Cond.laysFinal "VisitingHours$Part" "VisitingHours$Part" "n" "I") ∈ lw_all := lw_g (lw_at lw_m6 181 rfl) rfl
theorem q1525 : (Jvm.Cond.soleField "VisitingHours$Part" "n") ∈ lw_all := lw_g (lw_at lw_m6 182 rfl) rfl
theorem q1526 : (Jvm.Cond.laysFinal "VisitingHours$Part" "VisitingHours$Part" "fact" "LVisitingHours$Fact;") ∈ lw_all := lw_g (lw_at lw_m6 183 rfl) rfl
theorem q1527 : (Jvm.Cond.soleField "VisitingHours$Part" "fact") ∈ lw_all := lw_g (lw_at lw_m6 184 rfl) rfl
theorem q1528 : (Jvm.Cond.superclass "VisitingHours$Part" "java/lang/Object") ∈ lw_all := lw_g (lw_at lw_m6 185 rfl) rfl
theorem q1575 : (Jvm.Cond.selects "VisitingHours$Part" ({ cls := "java/lang/Object", name := "getClass", desc := "()Ljava/lang/Class;" } : Jvm.MethodName) ({ cls := "java/lang/Object", name := "getClass", desc := "()Ljava/lang/Class;" } : Jvm.MethodName)) ∈ lw_all := lw_g (lw_at lw_m6 232 rfl) rfl
theorem q2821 : (Jvm.Cond.castable "VisitingHours$Part" "java/lang/Object") ∈ lw_tbl := lw_at lw_m12 38 rfl
theorem in_X15 : ∀ w ∈ wsX150, w ∈ lw_all := lw_in wsX150 [1524, 1526] (by decide +kernel) (by decide +kernel)
/-! VisitingHours$Fact -/
set_option maxRecDepth 100000
def RX16 : String := "VisitingHours$Fact"
abbrev cX16_of : ByteArray := prog_3_method_4_code
def yX16_of : MethodName := ⟨RX16, "of", "(Ljava/lang/String;)LVisitingHours$Fact;"⟩
def dkwX16_of_1 : List UInt8 := [42, 182, 0, 52, 153, 0, 6, 25, 4, 176, 132, 3, 1, 167, 255, 228, 1, 176]
abbrev dktX16_of_1 : List UInt8 := dkwX16_of_1 ++ []
def dkwX16_of_0 : List UInt8 := [184, 0, 48, 76, 43, 190, 61, 3, 62, 29, 28, 162, 0, 29, 43, 29, 50, 58, 4, 25, 4, 180, 0, 44]
abbrev dktX16_of_0 : List UInt8 := dkwX16_of_0 ++ dktX16_of_1
theorem dksX16_of_0 : cX16_of.data.toList.drop 0 = dktX16_of_0 := by decide +kernel
theorem dksX16_of_1 : cX16_of.data.toList.drop 24 = dktX16_of_1 := dk_seg dksX16_of_0 24 rfl rfl
theorem dX16_of_0 : decode cX16_of 0 = .ok (.invokestatic 48, 3) := dk_184 0 48 (dk_at dksX16_of_0 0 rfl rfl)
theorem dX16_of_3 : decode cX16_of 3 = .ok (.astore_n 1, 1) := dk_76 (dk_at dksX16_of_0 3 rfl rfl)
theorem dX16_of_4 : decode cX16_of 4 = .ok (.aload_n 1, 1) := dk_43 (dk_at dksX16_of_0 4 rfl rfl)
theorem dX16_of_5 : decode cX16_of 5 = .ok (.arraylength, 1) := dk_190 (dk_at dksX16_of_0 5 rfl rfl)
theorem dX16_of_6 : decode cX16_of 6 = .ok (.istore_n 2, 1) := dk_61 (dk_at dksX16_of_0 6 rfl rfl)
theorem dX16_of_7 : decode cX16_of 7 = .ok (.iconst 0, 1) := dk_3 (dk_at dksX16_of_0 7 rfl rfl)
theorem dX16_of_8 : decode cX16_of 8 = .ok (.istore_n 3, 1) := dk_62 (dk_at dksX16_of_0 8 rfl rfl)
theorem dX16_of_9 : decode cX16_of 9 = .ok (.iload_n 3, 1) := dk_29 (dk_at dksX16_of_0 9 rfl rfl)
theorem dX16_of_10 : decode cX16_of 10 = .ok (.iload_n 2, 1) := dk_28 (dk_at dksX16_of_0 10 rfl rfl)
theorem dX16_of_11 : decode cX16_of 11 = .ok (.if_icmp .ge 29, 3) := dk_162 0 29 (dk_at dksX16_of_0 11 rfl rfl)
theorem dX16_of_14 : decode cX16_of 14 = .ok (.aload_n 1, 1) := dk_43 (dk_at dksX16_of_0 14 rfl rfl)
theorem dX16_of_15 : decode cX16_of 15 = .ok (.iload_n 3, 1) := dk_29 (dk_at dksX16_of_0 15 rfl rfl)
theorem dX16_of_16 : decode cX16_of 16 = .ok (.aaload, 1) := dk_50 (dk_at dksX16_of_0 16 rfl rfl)
theorem dX16_of_17 : decode cX16_of 17 = .ok (.astore 4, 2) := dk_58 4 (dk_at dksX16_of_0 17 rfl rfl)
theorem dX16_of_19 : decode cX16_of 19 = .ok (.aload 4, 2) := dk_25 4 (dk_at dksX16_of_0 19 rfl rfl)
theorem dX16_of_21 : decode cX16_of 21 = .ok (.getfield 44, 3) := dk_180 0 44 (dk_at dksX16_of_0 21 rfl rfl)
theorem dX16_of_24 : decode cX16_of 24 = .ok (.aload_n 0, 1) := dk_42 (dk_at dksX16_of_1 0 rfl rfl)
theorem dX16_of_25 : decode cX16_of 25 = .ok (.invokevirtual 52, 3) := dk_182 0 52 (dk_at dksX16_of_1 1 rfl rfl)
theorem dX16_of_28 : decode cX16_of 28 = .ok (.ifCond .eq 6, 3) := dk_153 0 6 (dk_at dksX16_of_1 4 rfl rfl)
theorem dX16_of_31 : decode cX16_of 31 = .ok (.aload 4, 2) := dk_25 4 (dk_at dksX16_of_1 7 rfl rfl)
theorem dX16_of_33 : decode cX16_of 33 = .ok (.areturn, 1) := dk_176 (dk_at dksX16_of_1 9 rfl rfl)
theorem dX16_of_34 : decode cX16_of 34 = .ok (.iinc 3 1, 3) := dk_132 3 1 (dk_at dksX16_of_1 10 rfl rfl)
theorem dX16_of_37 : decode cX16_of 37 = .ok (.goto (-28), 3) := dk_167 255 228 (dk_at dksX16_of_1 13 rfl rfl)
theorem dX16_of_40 : decode cX16_of 40 = .ok (.aconst_null, 1) := dk_1 (dk_at dksX16_of_1 16 rfl rfl)
theorem dX16_of_41 : decode cX16_of 41 = .ok (.areturn, 1) := dk_176 (dk_at dksX16_of_1 17 rfl rfl)
abbrev cX16_values : ByteArray := prog_3_method_1_code
def yX16_values : MethodName := ⟨RX16, "values", "()[LVisitingHours$Fact;"⟩
def dkwX16_values_0 : List UInt8 := [178, 0, 25, 182, 0, 29, 192, 0, 30, 176]
abbrev dktX16_values_0 : List UInt8 := dkwX16_values_0 ++ []
theorem dksX16_values_0 : cX16_values.data.toList.drop 0 = dktX16_values_0 := by decide +kernel
theorem dX16_values_0 : decode cX16_values 0 = .ok (.getstatic 25, 3) := dk_178 0 25 (dk_at dksX16_values_0 0 rfl rfl)
theorem dX16_values_3 : decode cX16_values 3 = .ok (.invokevirtual 29, 3) := dk_182 0 29 (dk_at dksX16_values_0 3 rfl rfl)
theorem dX16_values_6 : decode cX16_values 6 = .ok (.checkcast 30, 3) := dk_192 0 30 (dk_at dksX16_values_0 6 rfl rfl)
theorem dX16_values_9 : decode cX16_values 9 = .ok (.areturn, 1) := dk_176 (dk_at dksX16_values_0 9 rfl rfl)
theorem q180 : (Jvm.Cond.initialized "VisitingHours$Fact") ∈ lw_all := lw_g (lw_at lw_m1 37 rfl) rfl
theorem q588 : (Jvm.Cond.sameMethod "VisitingHours$Fact" "java/lang/Enum" "ordinal" "()I") ∈ lw_all := lw_g (lw_at lw_m2 205 rfl) rfl
theorem q590 : (Jvm.Cond.selects "VisitingHours$Fact" ({ cls := "VisitingHours$Fact", name := "ordinal", desc := "()I" } : Jvm.MethodName) ({ cls := "java/lang/Enum", name := "ordinal", desc := "()I" } : Jvm.MethodName)) ∈ lw_all := lw_g (lw_at lw_m2 207 rfl) rfl
theorem q1530 : (Jvm.Cond.static ({ cls := "VisitingHours$Fact", name := "of", desc := "(Ljava/lang/String;)LVisitingHours$Fact;" } : Jvm.MethodName)) ∈ lw_all := lw_g (lw_at lw_m6 187 rfl) rfl
theorem q1531 : (Jvm.Cond.code ({ cls := "VisitingHours$Fact", name := "of", desc := "(Ljava/lang/String;)LVisitingHours$Fact;" } : Jvm.MethodName) prog_3_method_4_code (5 : Nat) (Option.some (Jvm.ClassFile.FieldType.object "VisitingHours$Fact"))) ∈ lw_all := lw_g (lw_at lw_m6 188 rfl) rfl
theorem q1532 : (Jvm.Cond.methodLink "VisitingHours$Fact" (48 : Nat) ({ cls := "VisitingHours$Fact", name := "values", desc := "()[LVisitingHours$Fact;" } : Jvm.MethodName)) ∈ lw_all := lw_g (lw_at lw_m6 189 rfl) rfl
theorem q1533 : (Jvm.Cond.static ({ cls := "VisitingHours$Fact", name := "values", desc := "()[LVisitingHours$Fact;" } : Jvm.MethodName)) ∈ lw_all := lw_g (lw_at lw_m6 190 rfl) rfl
theorem q1534 : (Jvm.Cond.code ({ cls := "VisitingHours$Fact", name := "values", desc := "()[LVisitingHours$Fact;" } : Jvm.MethodName) prog_3_method_1_code (0 : Nat) (Option.some (Jvm.ClassFile.FieldType.array (Jvm.ClassFile.FieldType.object "VisitingHours$Fact")))) ∈ lw_all := lw_g (lw_at lw_m6 191 rfl) rfl
theorem q1535 : (Jvm.Cond.fieldLink "VisitingHours$Fact" (25 : Nat) "VisitingHours$Fact" "$VALUES" "[LVisitingHours$Fact;") ∈ lw_all := lw_g (lw_at lw_m6 192 rfl) rfl
theorem q1536 : (Jvm.Cond.laysStatic "VisitingHours$Fact" "$VALUES" "[LVisitingHours$Fact;") ∈ lw_tbl := lw_at lw_m6 193 rfl
theorem q1537 : (Jvm.Cond.methodLink "VisitingHours$Fact" (29 : Nat) ({ cls := "[LVisitingHours$Fact;", name := "clone", desc := "()Ljava/lang/Object;" } : Jvm.MethodName)) ∈ lw_all := lw_g (lw_at lw_m6 194 rfl) rfl
theorem q1542 : (Jvm.Cond.classLink "VisitingHours$Fact" (30 : Nat) "[LVisitingHours$Fact;") ∈ lw_all := lw_g (lw_at lw_m6 199 rfl) rfl
theorem q1543 : (Jvm.Cond.methodLink "VisitingHours$Fact" (52 : Nat) ({ cls := "java/lang/String", name := "equals", desc := "(Ljava/lang/Object;)Z" } : Jvm.MethodName)) ∈ lw_all := lw_g (lw_at lw_m6 200 rfl) rfl
theorem q1568 : (Jvm.Cond.selects "VisitingHours$Fact" ({ cls := "java/lang/Object", name := "getClass", desc := "()Ljava/lang/Class;" } : Jvm.MethodName) ({ cls := "java/lang/Object", name := "getClass", desc := "()Ljava/lang/Class;" } : Jvm.MethodName)) ∈ lw_all := lw_g (lw_at lw_m6 225 rfl) rfl
theorem q2801 : (Jvm.Cond.castable "VisitingHours$Fact" "java/lang/Object") ∈ lw_tbl := lw_at lw_m12 18 rfl
theorem q2842 : (Jvm.Cond.fieldLink "VisitingHours$Fact" (44 : Nat) "VisitingHours$Fact" "told" "Ljava/lang/String;") ∈ lw_all := lw_g (lw_at lw_m12 59 rfl) rfl
theorem q2847 : (Jvm.Cond.laysStatic "VisitingHours$Fact" "HOST" "LVisitingHours$Fact;") ∈ lw_tbl := lw_at lw_m12 64 rfl
theorem q2848 : (Jvm.Cond.laysStatic "VisitingHours$Fact" "GUEST" "LVisitingHours$Fact;") ∈ lw_tbl := lw_at lw_m12 65 rfl
theorem q2849 : (Jvm.Cond.laysStatic "VisitingHours$Fact" "QUARTER" "LVisitingHours$Fact;") ∈ lw_tbl := lw_at lw_m12 66 rfl
theorem q2850 : (Jvm.Cond.laysStatic "VisitingHours$Fact" "LONELY" "LVisitingHours$Fact;") ∈ lw_tbl := lw_at lw_m12 67 rfl
theorem q2851 : (Jvm.Cond.laysStatic "VisitingHours$Fact" "RANK" "LVisitingHours$Fact;") ∈ lw_tbl := lw_at lw_m12 68 rfl
theorem q2852 : (Jvm.Cond.laysStatic "VisitingHours$Fact" "LOVED" "LVisitingHours$Fact;") ∈ lw_tbl := lw_at lw_m12 69 rfl
theorem q2853 : (Jvm.Cond.laysStatic "VisitingHours$Fact" "WEEK" "LVisitingHours$Fact;") ∈ lw_tbl := lw_at lw_m12 70 rfl
theorem q2855 : (Jvm.Cond.stringRef "VisitingHours$Fact" (59 : Nat) "host") ∈ lw_tbl := lw_at lw_m12 72 rfl
theorem q2856 : (Jvm.Cond.stringRef "VisitingHours$Fact" (65 : Nat) "guest") ∈ lw_tbl := lw_at lw_m12 73 rfl
theorem q2857 : (Jvm.Cond.stringRef "VisitingHours$Fact" (68 : Nat) "quarter") ∈ lw_tbl := lw_at lw_m12 74 rfl
theorem q2858 : (Jvm.Cond.stringRef "VisitingHours$Fact" (71 : Nat) "lonely") ∈ lw_tbl := lw_at lw_m12 75 rfl
theorem q2859 : (Jvm.Cond.stringRef "VisitingHours$Fact" (74 : Nat) "rank") ∈ lw_tbl := lw_at lw_m12 76 rfl
theorem q2860 : (Jvm.Cond.stringRef "VisitingHours$Fact" (77 : Nat) "loved") ∈ lw_tbl := lw_at lw_m12 77 rfl
theorem q2861 : (Jvm.Cond.stringRef "VisitingHours$Fact" (80 : Nat) "week") ∈ lw_tbl := lw_at lw_m12 78 rfl
/-! VisitingHours$Less -/
set_option maxRecDepth 100000
def RX17 : String := "VisitingHours$Less"
def TX17 : u_T := fun k => match k with
  | 0 => ("VisitingHours$Less", "a", "LVisitingHours$Sum;", true)
  | _ => ("VisitingHours$Less", "b", "LVisitingHours$Sum;", true)
def tyX17 : Nat → FieldType := fun k => match k with
  | 0 => .object "VisitingHours$Sum"
  | _ => .object "VisitingHours$Sum"
abbrev wsX170 : List Cond := u_ws RX17 TX17 2
theorem nmX17 : ∀ a, a < 2 → ∀ b, b < 2 → a ≠ b → (TX17 a).2.1 ≠ (TX17 b).2.1 := by decide +kernel
theorem tyX17_ok : ∀ k, k < 2 → parseFieldDescriptor (TX17 k).2.2.1 = some (tyX17 k) := by decide +kernel
abbrev cX17_holds : ByteArray := prog_6_method_2_code
def yX17_holds : MethodName := ⟨RX17, "holds", "(LVisitingHours$Scene;)Z"⟩
def dkwX17_holds_1 : List UInt8 := [172]
abbrev dktX17_holds_1 : List UInt8 := dkwX17_holds_1 ++ []
def dkwX17_holds_0 : List UInt8 := [42, 180, 0, 7, 43, 182, 0, 16, 42, 180, 0, 13, 43, 182, 0, 16, 162, 0, 7, 4, 167, 0, 4, 3]
abbrev dktX17_holds_0 : List UInt8 := dkwX17_holds_0 ++ dktX17_holds_1
theorem dksX17_holds_0 : cX17_holds.data.toList.drop 0 = dktX17_holds_0 := by decide +kernel
theorem dksX17_holds_1 : cX17_holds.data.toList.drop 24 = dktX17_holds_1 := dk_seg dksX17_holds_0 24 rfl rfl
theorem dX17_holds_0 : decode cX17_holds 0 = .ok (.aload_n 0, 1) := dk_42 (dk_at dksX17_holds_0 0 rfl rfl)
theorem dX17_holds_1 : decode cX17_holds 1 = .ok (.getfield 7, 3) := dk_180 0 7 (dk_at dksX17_holds_0 1 rfl rfl)
theorem dX17_holds_4 : decode cX17_holds 4 = .ok (.aload_n 1, 1) := dk_43 (dk_at dksX17_holds_0 4 rfl rfl)
theorem dX17_holds_5 : decode cX17_holds 5 = .ok (.invokevirtual 16, 3) := dk_182 0 16 (dk_at dksX17_holds_0 5 rfl rfl)
theorem dX17_holds_8 : decode cX17_holds 8 = .ok (.aload_n 0, 1) := dk_42 (dk_at dksX17_holds_0 8 rfl rfl)
theorem dX17_holds_9 : decode cX17_holds 9 = .ok (.getfield 13, 3) := dk_180 0 13 (dk_at dksX17_holds_0 9 rfl rfl)
theorem dX17_holds_12 : decode cX17_holds 12 = .ok (.aload_n 1, 1) := dk_43 (dk_at dksX17_holds_0 12 rfl rfl)
theorem dX17_holds_13 : decode cX17_holds 13 = .ok (.invokevirtual 16, 3) := dk_182 0 16 (dk_at dksX17_holds_0 13 rfl rfl)
theorem dX17_holds_16 : decode cX17_holds 16 = .ok (.if_icmp .ge 7, 3) := dk_162 0 7 (dk_at dksX17_holds_0 16 rfl rfl)
theorem dX17_holds_19 : decode cX17_holds 19 = .ok (.iconst 1, 1) := dk_4 (dk_at dksX17_holds_0 19 rfl rfl)
theorem dX17_holds_20 : decode cX17_holds 20 = .ok (.goto 4, 3) := dk_167 0 4 (dk_at dksX17_holds_0 20 rfl rfl)
theorem dX17_holds_23 : decode cX17_holds 23 = .ok (.iconst 0, 1) := dk_3 (dk_at dksX17_holds_0 23 rfl rfl)
theorem dX17_holds_24 : decode cX17_holds 24 = .ok (.ireturn, 1) := dk_172 (dk_at dksX17_holds_1 0 rfl rfl)
abbrev cX17_init : ByteArray := prog_6_method_1_code
def yX17_init : MethodName := ⟨RX17, "<init>", "(LVisitingHours$Sum;LVisitingHours$Sum;)V"⟩
def dkwX17_init_0 : List UInt8 := [42, 183, 0, 1, 42, 43, 181, 0, 7, 42, 44, 181, 0, 13, 177]
abbrev dktX17_init_0 : List UInt8 := dkwX17_init_0 ++ []
theorem dksX17_init_0 : cX17_init.data.toList.drop 0 = dktX17_init_0 := by decide +kernel
theorem dX17_init_0 : decode cX17_init 0 = .ok (.aload_n 0, 1) := dk_42 (dk_at dksX17_init_0 0 rfl rfl)
theorem dX17_init_1 : decode cX17_init 1 = .ok (.invokespecial 1, 3) := dk_183 0 1 (dk_at dksX17_init_0 1 rfl rfl)
theorem dX17_init_4 : decode cX17_init 4 = .ok (.aload_n 0, 1) := dk_42 (dk_at dksX17_init_0 4 rfl rfl)
theorem dX17_init_5 : decode cX17_init 5 = .ok (.aload_n 1, 1) := dk_43 (dk_at dksX17_init_0 5 rfl rfl)
theorem dX17_init_6 : decode cX17_init 6 = .ok (.putfield 7, 3) := dk_181 0 7 (dk_at dksX17_init_0 6 rfl rfl)
theorem dX17_init_9 : decode cX17_init 9 = .ok (.aload_n 0, 1) := dk_42 (dk_at dksX17_init_0 9 rfl rfl)
theorem dX17_init_10 : decode cX17_init 10 = .ok (.aload_n 2, 1) := dk_44 (dk_at dksX17_init_0 10 rfl rfl)
theorem dX17_init_11 : decode cX17_init 11 = .ok (.putfield 13, 3) := dk_181 0 13 (dk_at dksX17_init_0 11 rfl rfl)
theorem dX17_init_14 : decode cX17_init 14 = .ok (.return_, 1) := dk_177 (dk_at dksX17_init_0 14 rfl rfl)
theorem q181 : (Jvm.Cond.initialized "VisitingHours$Less") ∈ lw_all := lw_g (lw_at lw_m1 38 rfl) rfl
theorem q566 : (Jvm.Cond.castable "VisitingHours$Less" "VisitingHours$Cond") ∈ lw_tbl := lw_at lw_m2 183 rfl
theorem q567 : (Jvm.Cond.selects "VisitingHours$Less" ({ cls := "VisitingHours$Cond", name := "holds", desc := "(LVisitingHours$Scene;)Z" } : Jvm.MethodName) ({ cls := "VisitingHours$Less", name := "holds", desc := "(LVisitingHours$Scene;)Z" } : Jvm.MethodName)) ∈ lw_all := lw_g (lw_at lw_m2 184 rfl) rfl
theorem q568 : (Jvm.Cond.unhidden "VisitingHours$Less" "holds" "(LVisitingHours$Scene;)Z") ∈ lw_tbl := lw_at lw_m2 185 rfl
theorem q569 : (Jvm.Cond.instanceMethod ({ cls := "VisitingHours$Less", name := "holds", desc := "(LVisitingHours$Scene;)Z" } : Jvm.MethodName)) ∈ lw_all := lw_g (lw_at lw_m2 186 rfl) rfl
theorem q570 : (Jvm.Cond.publicMethod ({ cls := "VisitingHours$Less", name := "holds", desc := "(LVisitingHours$Scene;)Z" } : Jvm.MethodName)) ∈ lw_tbl := lw_at lw_m2 187 rfl
theorem q571 : (Jvm.Cond.code ({ cls := "VisitingHours$Less", name := "holds", desc := "(LVisitingHours$Scene;)Z" } : Jvm.MethodName) prog_6_method_2_code (2 : Nat) (Option.some Jvm.ClassFile.FieldType.boolean)) ∈ lw_all := lw_g (lw_at lw_m2 188 rfl) rfl
theorem q572 : (Jvm.Cond.methodLink "VisitingHours$Less" (16 : Nat) ({ cls := "VisitingHours$Sum", name := "in", desc := "(LVisitingHours$Scene;)I" } : Jvm.MethodName)) ∈ lw_all := lw_g (lw_at lw_m2 189 rfl) rfl
theorem q1571 : (Jvm.Cond.selects "VisitingHours$Less" ({ cls := "java/lang/Object", name := "getClass", desc := "()Ljava/lang/Class;" } : Jvm.MethodName) ({ cls := "java/lang/Object", name := "getClass", desc := "()Ljava/lang/Class;" } : Jvm.MethodName)) ∈ lw_all := lw_g (lw_at lw_m6 228 rfl) rfl
theorem q1604 : (Jvm.Cond.instantiable "VisitingHours$Less" (2 : Nat)) ∈ lw_all := lw_g (lw_at lw_m7 21 rfl) rfl
theorem q1606 : (Jvm.Cond.instanceMethod ({ cls := "VisitingHours$Less", name := "<init>", desc := "(LVisitingHours$Sum;LVisitingHours$Sum;)V" } : Jvm.MethodName)) ∈ lw_all := lw_g (lw_at lw_m7 23 rfl) rfl
theorem q1607 : (Jvm.Cond.code ({ cls := "VisitingHours$Less", name := "<init>", desc := "(LVisitingHours$Sum;LVisitingHours$Sum;)V" } : Jvm.MethodName) prog_6_method_1_code (3 : Nat) (Option.none : Option Jvm.ClassFile.FieldType)) ∈ lw_all := lw_g (lw_at lw_m7 24 rfl) rfl
theorem q1608 : (Jvm.Cond.methodLink "VisitingHours$Less" (1 : Nat) ({ cls := "java/lang/Object", name := "<init>", desc := "()V" } : Jvm.MethodName)) ∈ lw_all := lw_g (lw_at lw_m7 25 rfl) rfl
theorem q1609 : (Jvm.Cond.fieldLink "VisitingHours$Less" (7 : Nat) "VisitingHours$Less" "a" "LVisitingHours$Sum;") ∈ lw_all := lw_g (lw_at lw_m7 26 rfl) rfl
theorem q1610 : (Jvm.Cond.fieldLink "VisitingHours$Less" (13 : Nat) "VisitingHours$Less" "b" "LVisitingHours$Sum;") ∈ lw_all := lw_g (lw_at lw_m7 27 rfl) rfl
theorem q1611 : (Jvm.Cond.laysFinal "VisitingHours$Less" "VisitingHours$Less" "a" "LVisitingHours$Sum;") ∈ lw_all := lw_g (lw_at lw_m7 28 rfl) rfl
theorem q1612 : (Jvm.Cond.soleField "VisitingHours$Less" "a") ∈ lw_all := lw_g (lw_at lw_m7 29 rfl) rfl
theorem q1613 : (Jvm.Cond.laysFinal "VisitingHours$Less" "VisitingHours$Less" "b" "LVisitingHours$Sum;") ∈ lw_all := lw_g (lw_at lw_m7 30 rfl) rfl
theorem q1614 : (Jvm.Cond.soleField "VisitingHours$Less" "b") ∈ lw_all := lw_g (lw_at lw_m7 31 rfl) rfl
theorem q1615 : (Jvm.Cond.superclass "VisitingHours$Less" "java/lang/Object") ∈ lw_all := lw_g (lw_at lw_m7 32 rfl) rfl
theorem q2822 : (Jvm.Cond.castable "VisitingHours$Less" "java/lang/Object") ∈ lw_tbl := lw_at lw_m12 39 rfl
theorem in_X17 : ∀ w ∈ wsX170, w ∈ lw_all := lw_in wsX170 [1611, 1613] (by decide +kernel) (by decide +kernel)
