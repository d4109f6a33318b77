/-! VisitingHours -/
set_option maxRecDepth 100000
def RX1 : String := "VisitingHours"
def TX1 : u_T := fun k => match k with
  | 0 => ("VisitingHours", "world", "LVisitingHours$World;", true)
  | 1 => ("VisitingHours", "draft", "LVisitingHours$World;", true)
  | 2 => ("VisitingHours", "image", "LVisitingHours$World;", true)
  | 3 => ("VisitingHours", "hasImage", "Z", false)
  | 4 => ("VisitingHours", "reader", "LVisitingHours$Reader;", true)
  | 5 => ("VisitingHours", "scene", "LVisitingHours$Scene;", true)
  | 6 => ("VisitingHours", "met", "I", false)
  | 7 => ("VisitingHours", "then", "LVisitingHours$World;", true)
  | 8 => ("VisitingHours", "worlds", "Ljava/util/ArrayList;", true)
  | 9 => ("VisitingHours", "pairs", "LVisitingHours$Pairs;", true)
  | 10 => ("VisitingHours", "over", "[I", true)
  | 11 => ("VisitingHours", "most", "[I", true)
  | 12 => ("VisitingHours", "must", "[I", true)
  | 13 => ("VisitingHours", "not", "[I", true)
  | 14 => ("VisitingHours", "lent", "[I", true)
  | _ => ("VisitingHours", "trial", "LVisitingHours$World;", true)
def tyX1 : Nat → FieldType := fun k => match k with
  | 0 => .object "VisitingHours$World"
  | 1 => .object "VisitingHours$World"
  | 2 => .object "VisitingHours$World"
  | 3 => .boolean
  | 4 => .object "VisitingHours$Reader"
  | 5 => .object "VisitingHours$Scene"
  | 6 => .int
  | 7 => .object "VisitingHours$World"
  | 8 => .object "java/util/ArrayList"
  | 9 => .object "VisitingHours$Pairs"
  | 10 => .array .int
  | 11 => .array .int
  | 12 => .array .int
  | 13 => .array .int
  | 14 => .array .int
  | _ => .object "VisitingHours$World"
abbrev wsX10 : List Cond := u_ws RX1 TX1 16
set_option maxRecDepth 100000 in
theorem nmX1 : ∀ a, a < 16 → ∀ b, b < 16 → a ≠ b → (TX1 a).2.1 ≠ (TX1 b).2.1 := by decide +kernel
set_option maxRecDepth 100000 in
theorem tyX1_ok : ∀ k, k < 16 → parseFieldDescriptor (TX1 k).2.2.1 = some (tyX1 k) := by decide +kernel
abbrev cX1_init : ByteArray := prog_1_method_1_code
def yX1_init : MethodName := ⟨RX1, "<init>", "()V"⟩
def dkwX1_init_6 : List UInt8 := [181, 0, 68, 42, 187, 0, 7, 89, 183, 0, 9, 181, 0, 71, 177]
abbrev dktX1_init_6 : List UInt8 := dkwX1_init_6 ++ []
def dkwX1_init_5 : List UInt8 := [17, 2, 217, 188, 10, 181, 0, 62, 42, 17, 2, 217, 188, 10, 181, 0, 65, 42, 17, 9, 0, 188, 10]
abbrev dktX1_init_5 : List UInt8 := dkwX1_init_5 ++ dktX1_init_6
def dkwX1_init_4 : List UInt8 := [181, 0, 51, 42, 17, 1, 0, 188, 10, 181, 0, 55, 42, 17, 9, 0, 188, 10, 181, 0, 59, 42]
abbrev dktX1_init_4 : List UInt8 := dkwX1_init_4 ++ dktX1_init_5
def dkwX1_init_3 : List UInt8 := [181, 0, 36, 42, 187, 0, 39, 89, 183, 0, 41, 181, 0, 42, 42, 187, 0, 46, 89, 42, 183, 0, 48]
abbrev dktX1_init_3 : List UInt8 := dkwX1_init_3 ++ dktX1_init_4
def dkwX1_init_2 : List UInt8 := [181, 0, 25, 42, 187, 0, 29, 89, 183, 0, 31, 181, 0, 32, 42, 187, 0, 7, 89, 183, 0, 9]
abbrev dktX1_init_2 : List UInt8 := dkwX1_init_2 ++ dktX1_init_3
def dkwX1_init_1 : List UInt8 := [181, 0, 16, 42, 187, 0, 7, 89, 183, 0, 9, 181, 0, 19, 42, 187, 0, 22, 89, 183, 0, 24]
abbrev dktX1_init_1 : List UInt8 := dkwX1_init_1 ++ dktX1_init_2
def dkwX1_init_0 : List UInt8 := [42, 183, 0, 1, 42, 187, 0, 7, 89, 183, 0, 9, 181, 0, 10, 42, 187, 0, 7, 89, 183, 0, 9]
abbrev dktX1_init_0 : List UInt8 := dkwX1_init_0 ++ dktX1_init_1
theorem dksX1_init_0 : cX1_init.data.toList.drop 0 = dktX1_init_0 := by decide +kernel
theorem dksX1_init_1 : cX1_init.data.toList.drop 23 = dktX1_init_1 := dk_seg dksX1_init_0 23 rfl rfl
theorem dksX1_init_2 : cX1_init.data.toList.drop 45 = dktX1_init_2 := dk_seg dksX1_init_1 22 rfl rfl
theorem dksX1_init_3 : cX1_init.data.toList.drop 67 = dktX1_init_3 := dk_seg dksX1_init_2 22 rfl rfl
theorem dksX1_init_4 : cX1_init.data.toList.drop 90 = dktX1_init_4 := dk_seg dksX1_init_3 23 rfl rfl
theorem dksX1_init_5 : cX1_init.data.toList.drop 112 = dktX1_init_5 := dk_seg dksX1_init_4 22 rfl rfl
theorem dksX1_init_6 : cX1_init.data.toList.drop 135 = dktX1_init_6 := dk_seg dksX1_init_5 23 rfl rfl
theorem dX1_init_0 : decode cX1_init 0 = .ok (.aload_n 0, 1) := dk_42 (dk_at dksX1_init_0 0 rfl rfl)
theorem dX1_init_1 : decode cX1_init 1 = .ok (.invokespecial 1, 3) := dk_183 0 1 (dk_at dksX1_init_0 1 rfl rfl)
theorem dX1_init_4 : decode cX1_init 4 = .ok (.aload_n 0, 1) := dk_42 (dk_at dksX1_init_0 4 rfl rfl)
theorem dX1_init_5 : decode cX1_init 5 = .ok (.new 7, 3) := dk_187 0 7 (dk_at dksX1_init_0 5 rfl rfl)
theorem dX1_init_8 : decode cX1_init 8 = .ok (.dup, 1) := dk_89 (dk_at dksX1_init_0 8 rfl rfl)
theorem dX1_init_9 : decode cX1_init 9 = .ok (.invokespecial 9, 3) := dk_183 0 9 (dk_at dksX1_init_0 9 rfl rfl)
theorem dX1_init_12 : decode cX1_init 12 = .ok (.putfield 10, 3) := dk_181 0 10 (dk_at dksX1_init_0 12 rfl rfl)
theorem dX1_init_15 : decode cX1_init 15 = .ok (.aload_n 0, 1) := dk_42 (dk_at dksX1_init_0 15 rfl rfl)
theorem dX1_init_16 : decode cX1_init 16 = .ok (.new 7, 3) := dk_187 0 7 (dk_at dksX1_init_0 16 rfl rfl)
theorem dX1_init_19 : decode cX1_init 19 = .ok (.dup, 1) := dk_89 (dk_at dksX1_init_0 19 rfl rfl)
theorem dX1_init_20 : decode cX1_init 20 = .ok (.invokespecial 9, 3) := dk_183 0 9 (dk_at dksX1_init_0 20 rfl rfl)
theorem dX1_init_23 : decode cX1_init 23 = .ok (.putfield 16, 3) := dk_181 0 16 (dk_at dksX1_init_1 0 rfl rfl)
theorem dX1_init_26 : decode cX1_init 26 = .ok (.aload_n 0, 1) := dk_42 (dk_at dksX1_init_1 3 rfl rfl)
theorem dX1_init_27 : decode cX1_init 27 = .ok (.new 7, 3) := dk_187 0 7 (dk_at dksX1_init_1 4 rfl rfl)
theorem dX1_init_30 : decode cX1_init 30 = .ok (.dup, 1) := dk_89 (dk_at dksX1_init_1 7 rfl rfl)
theorem dX1_init_31 : decode cX1_init 31 = .ok (.invokespecial 9, 3) := dk_183 0 9 (dk_at dksX1_init_1 8 rfl rfl)
theorem dX1_init_34 : decode cX1_init 34 = .ok (.putfield 19, 3) := dk_181 0 19 (dk_at dksX1_init_1 11 rfl rfl)
theorem dX1_init_37 : decode cX1_init 37 = .ok (.aload_n 0, 1) := dk_42 (dk_at dksX1_init_1 14 rfl rfl)
theorem dX1_init_38 : decode cX1_init 38 = .ok (.new 22, 3) := dk_187 0 22 (dk_at dksX1_init_1 15 rfl rfl)
theorem dX1_init_41 : decode cX1_init 41 = .ok (.dup, 1) := dk_89 (dk_at dksX1_init_1 18 rfl rfl)
theorem dX1_init_42 : decode cX1_init 42 = .ok (.invokespecial 24, 3) := dk_183 0 24 (dk_at dksX1_init_1 19 rfl rfl)
theorem dX1_init_45 : decode cX1_init 45 = .ok (.putfield 25, 3) := dk_181 0 25 (dk_at dksX1_init_2 0 rfl rfl)
theorem dX1_init_48 : decode cX1_init 48 = .ok (.aload_n 0, 1) := dk_42 (dk_at dksX1_init_2 3 rfl rfl)
theorem dX1_init_49 : decode cX1_init 49 = .ok (.new 29, 3) := dk_187 0 29 (dk_at dksX1_init_2 4 rfl rfl)
theorem dX1_init_52 : decode cX1_init 52 = .ok (.dup, 1) := dk_89 (dk_at dksX1_init_2 7 rfl rfl)
theorem dX1_init_53 : decode cX1_init 53 = .ok (.invokespecial 31, 3) := dk_183 0 31 (dk_at dksX1_init_2 8 rfl rfl)
theorem dX1_init_56 : decode cX1_init 56 = .ok (.putfield 32, 3) := dk_181 0 32 (dk_at dksX1_init_2 11 rfl rfl)
theorem dX1_init_59 : decode cX1_init 59 = .ok (.aload_n 0, 1) := dk_42 (dk_at dksX1_init_2 14 rfl rfl)
theorem dX1_init_60 : decode cX1_init 60 = .ok (.new 7, 3) := dk_187 0 7 (dk_at dksX1_init_2 15 rfl rfl)
theorem dX1_init_63 : decode cX1_init 63 = .ok (.dup, 1) := dk_89 (dk_at dksX1_init_2 18 rfl rfl)
theorem dX1_init_64 : decode cX1_init 64 = .ok (.invokespecial 9, 3) := dk_183 0 9 (dk_at dksX1_init_2 19 rfl rfl)
theorem dX1_init_67 : decode cX1_init 67 = .ok (.putfield 36, 3) := dk_181 0 36 (dk_at dksX1_init_3 0 rfl rfl)
theorem dX1_init_70 : decode cX1_init 70 = .ok (.aload_n 0, 1) := dk_42 (dk_at dksX1_init_3 3 rfl rfl)
theorem dX1_init_71 : decode cX1_init 71 = .ok (.new 39, 3) := dk_187 0 39 (dk_at dksX1_init_3 4 rfl rfl)
theorem dX1_init_74 : decode cX1_init 74 = .ok (.dup, 1) := dk_89 (dk_at dksX1_init_3 7 rfl rfl)
theorem dX1_init_75 : decode cX1_init 75 = .ok (.invokespecial 41, 3) := dk_183 0 41 (dk_at dksX1_init_3 8 rfl rfl)
theorem dX1_init_78 : decode cX1_init 78 = .ok (.putfield 42, 3) := dk_181 0 42 (dk_at dksX1_init_3 11 rfl rfl)
theorem dX1_init_81 : decode cX1_init 81 = .ok (.aload_n 0, 1) := dk_42 (dk_at dksX1_init_3 14 rfl rfl)
theorem dX1_init_82 : decode cX1_init 82 = .ok (.new 46, 3) := dk_187 0 46 (dk_at dksX1_init_3 15 rfl rfl)
theorem dX1_init_85 : decode cX1_init 85 = .ok (.dup, 1) := dk_89 (dk_at dksX1_init_3 18 rfl rfl)
theorem dX1_init_86 : decode cX1_init 86 = .ok (.aload_n 0, 1) := dk_42 (dk_at dksX1_init_3 19 rfl rfl)
theorem dX1_init_87 : decode cX1_init 87 = .ok (.invokespecial 48, 3) := dk_183 0 48 (dk_at dksX1_init_3 20 rfl rfl)
theorem dX1_init_90 : decode cX1_init 90 = .ok (.putfield 51, 3) := dk_181 0 51 (dk_at dksX1_init_4 0 rfl rfl)
theorem dX1_init_93 : decode cX1_init 93 = .ok (.aload_n 0, 1) := dk_42 (dk_at dksX1_init_4 3 rfl rfl)
theorem dX1_init_94 : decode cX1_init 94 = .ok (.sipush 256, 3) := dk_17 1 0 (dk_at dksX1_init_4 4 rfl rfl)
theorem dX1_init_97 : decode cX1_init 97 = .ok (.newarray .int, 2) := dk_188_10 (dk_at dksX1_init_4 7 rfl rfl)
theorem dX1_init_99 : decode cX1_init 99 = .ok (.putfield 55, 3) := dk_181 0 55 (dk_at dksX1_init_4 9 rfl rfl)
theorem dX1_init_102 : decode cX1_init 102 = .ok (.aload_n 0, 1) := dk_42 (dk_at dksX1_init_4 12 rfl rfl)
theorem dX1_init_103 : decode cX1_init 103 = .ok (.sipush 2304, 3) := dk_17 9 0 (dk_at dksX1_init_4 13 rfl rfl)
theorem dX1_init_106 : decode cX1_init 106 = .ok (.newarray .int, 2) := dk_188_10 (dk_at dksX1_init_4 16 rfl rfl)
theorem dX1_init_108 : decode cX1_init 108 = .ok (.putfield 59, 3) := dk_181 0 59 (dk_at dksX1_init_4 18 rfl rfl)
theorem dX1_init_111 : decode cX1_init 111 = .ok (.aload_n 0, 1) := dk_42 (dk_at dksX1_init_4 21 rfl rfl)
theorem dX1_init_112 : decode cX1_init 112 = .ok (.sipush 729, 3) := dk_17 2 217 (dk_at dksX1_init_5 0 rfl rfl)
theorem dX1_init_115 : decode cX1_init 115 = .ok (.newarray .int, 2) := dk_188_10 (dk_at dksX1_init_5 3 rfl rfl)
theorem dX1_init_117 : decode cX1_init 117 = .ok (.putfield 62, 3) := dk_181 0 62 (dk_at dksX1_init_5 5 rfl rfl)
theorem dX1_init_120 : decode cX1_init 120 = .ok (.aload_n 0, 1) := dk_42 (dk_at dksX1_init_5 8 rfl rfl)
theorem dX1_init_121 : decode cX1_init 121 = .ok (.sipush 729, 3) := dk_17 2 217 (dk_at dksX1_init_5 9 rfl rfl)
theorem dX1_init_124 : decode cX1_init 124 = .ok (.newarray .int, 2) := dk_188_10 (dk_at dksX1_init_5 12 rfl rfl)
theorem dX1_init_126 : decode cX1_init 126 = .ok (.putfield 65, 3) := dk_181 0 65 (dk_at dksX1_init_5 14 rfl rfl)
theorem dX1_init_129 : decode cX1_init 129 = .ok (.aload_n 0, 1) := dk_42 (dk_at dksX1_init_5 17 rfl rfl)
theorem dX1_init_130 : decode cX1_init 130 = .ok (.sipush 2304, 3) := dk_17 9 0 (dk_at dksX1_init_5 18 rfl rfl)
theorem dX1_init_133 : decode cX1_init 133 = .ok (.newarray .int, 2) := dk_188_10 (dk_at dksX1_init_5 21 rfl rfl)
theorem dX1_init_135 : decode cX1_init 135 = .ok (.putfield 68, 3) := dk_181 0 68 (dk_at dksX1_init_6 0 rfl rfl)
theorem dX1_init_138 : decode cX1_init 138 = .ok (.aload_n 0, 1) := dk_42 (dk_at dksX1_init_6 3 rfl rfl)
theorem dX1_init_139 : decode cX1_init 139 = .ok (.new 7, 3) := dk_187 0 7 (dk_at dksX1_init_6 4 rfl rfl)
theorem dX1_init_142 : decode cX1_init 142 = .ok (.dup, 1) := dk_89 (dk_at dksX1_init_6 7 rfl rfl)
theorem dX1_init_143 : decode cX1_init 143 = .ok (.invokespecial 9, 3) := dk_183 0 9 (dk_at dksX1_init_6 8 rfl rfl)
theorem dX1_init_146 : decode cX1_init 146 = .ok (.putfield 71, 3) := dk_181 0 71 (dk_at dksX1_init_6 11 rfl rfl)
theorem dX1_init_149 : decode cX1_init 149 = .ok (.return_, 1) := dk_177 (dk_at dksX1_init_6 14 rfl rfl)
abbrev cX1_feed : ByteArray := prog_1_method_3_code
def yX1_feed : MethodName := ⟨RX1, "feed", "(IIIII)I"⟩
def dkwX1_feed_1 : List UInt8 := [89, 7, 21, 5, 79, 182, 0, 74, 172]
abbrev dktX1_feed_1 : List UInt8 := dkwX1_feed_1 ++ []
def dkwX1_feed_0 : List UInt8 := [42, 180, 0, 25, 8, 188, 10, 89, 3, 27, 79, 89, 4, 28, 79, 89, 5, 29, 79, 89, 6, 21, 4, 79]
abbrev dktX1_feed_0 : List UInt8 := dkwX1_feed_0 ++ dktX1_feed_1
theorem dksX1_feed_0 : cX1_feed.data.toList.drop 0 = dktX1_feed_0 := by decide +kernel
theorem dksX1_feed_1 : cX1_feed.data.toList.drop 24 = dktX1_feed_1 := dk_seg dksX1_feed_0 24 rfl rfl
theorem dX1_feed_0 : decode cX1_feed 0 = .ok (.aload_n 0, 1) := dk_42 (dk_at dksX1_feed_0 0 rfl rfl)
theorem dX1_feed_1 : decode cX1_feed 1 = .ok (.getfield 25, 3) := dk_180 0 25 (dk_at dksX1_feed_0 1 rfl rfl)
theorem dX1_feed_4 : decode cX1_feed 4 = .ok (.iconst 5, 1) := dk_8 (dk_at dksX1_feed_0 4 rfl rfl)
theorem dX1_feed_5 : decode cX1_feed 5 = .ok (.newarray .int, 2) := dk_188_10 (dk_at dksX1_feed_0 5 rfl rfl)
theorem dX1_feed_7 : decode cX1_feed 7 = .ok (.dup, 1) := dk_89 (dk_at dksX1_feed_0 7 rfl rfl)
theorem dX1_feed_8 : decode cX1_feed 8 = .ok (.iconst 0, 1) := dk_3 (dk_at dksX1_feed_0 8 rfl rfl)
theorem dX1_feed_9 : decode cX1_feed 9 = .ok (.iload_n 1, 1) := dk_27 (dk_at dksX1_feed_0 9 rfl rfl)
theorem dX1_feed_10 : decode cX1_feed 10 = .ok (.iastore, 1) := dk_79 (dk_at dksX1_feed_0 10 rfl rfl)
theorem dX1_feed_11 : decode cX1_feed 11 = .ok (.dup, 1) := dk_89 (dk_at dksX1_feed_0 11 rfl rfl)
theorem dX1_feed_12 : decode cX1_feed 12 = .ok (.iconst 1, 1) := dk_4 (dk_at dksX1_feed_0 12 rfl rfl)
theorem dX1_feed_13 : decode cX1_feed 13 = .ok (.iload_n 2, 1) := dk_28 (dk_at dksX1_feed_0 13 rfl rfl)
theorem dX1_feed_14 : decode cX1_feed 14 = .ok (.iastore, 1) := dk_79 (dk_at dksX1_feed_0 14 rfl rfl)
theorem dX1_feed_15 : decode cX1_feed 15 = .ok (.dup, 1) := dk_89 (dk_at dksX1_feed_0 15 rfl rfl)
theorem dX1_feed_16 : decode cX1_feed 16 = .ok (.iconst 2, 1) := dk_5 (dk_at dksX1_feed_0 16 rfl rfl)
theorem dX1_feed_17 : decode cX1_feed 17 = .ok (.iload_n 3, 1) := dk_29 (dk_at dksX1_feed_0 17 rfl rfl)
theorem dX1_feed_18 : decode cX1_feed 18 = .ok (.iastore, 1) := dk_79 (dk_at dksX1_feed_0 18 rfl rfl)
theorem dX1_feed_19 : decode cX1_feed 19 = .ok (.dup, 1) := dk_89 (dk_at dksX1_feed_0 19 rfl rfl)
theorem dX1_feed_20 : decode cX1_feed 20 = .ok (.iconst 3, 1) := dk_6 (dk_at dksX1_feed_0 20 rfl rfl)
theorem dX1_feed_21 : decode cX1_feed 21 = .ok (.iload 4, 2) := dk_21 4 (dk_at dksX1_feed_0 21 rfl rfl)
theorem dX1_feed_23 : decode cX1_feed 23 = .ok (.iastore, 1) := dk_79 (dk_at dksX1_feed_0 23 rfl rfl)
theorem dX1_feed_24 : decode cX1_feed 24 = .ok (.dup, 1) := dk_89 (dk_at dksX1_feed_1 0 rfl rfl)
theorem dX1_feed_25 : decode cX1_feed 25 = .ok (.iconst 4, 1) := dk_7 (dk_at dksX1_feed_1 1 rfl rfl)
theorem dX1_feed_26 : decode cX1_feed 26 = .ok (.iload 5, 2) := dk_21 5 (dk_at dksX1_feed_1 2 rfl rfl)
theorem dX1_feed_28 : decode cX1_feed 28 = .ok (.iastore, 1) := dk_79 (dk_at dksX1_feed_1 4 rfl rfl)
theorem dX1_feed_29 : decode cX1_feed 29 = .ok (.invokevirtual 74, 3) := dk_182 0 74 (dk_at dksX1_feed_1 5 rfl rfl)
theorem dX1_feed_32 : decode cX1_feed 32 = .ok (.ireturn, 1) := dk_172 (dk_at dksX1_feed_1 8 rfl rfl)
abbrev cX1_end : ByteArray := prog_1_method_4_code
def yX1_end : MethodName := ⟨RX1, "end", "(I)Z"⟩
def dkwX1_end_0 : List UInt8 := [42, 180, 0, 25, 27, 182, 0, 78, 172]
abbrev dktX1_end_0 : List UInt8 := dkwX1_end_0 ++ []
theorem dksX1_end_0 : cX1_end.data.toList.drop 0 = dktX1_end_0 := by decide +kernel
theorem dX1_end_0 : decode cX1_end 0 = .ok (.aload_n 0, 1) := dk_42 (dk_at dksX1_end_0 0 rfl rfl)
theorem dX1_end_1 : decode cX1_end 1 = .ok (.getfield 25, 3) := dk_180 0 25 (dk_at dksX1_end_0 1 rfl rfl)
theorem dX1_end_4 : decode cX1_end 4 = .ok (.iload_n 1, 1) := dk_27 (dk_at dksX1_end_0 4 rfl rfl)
theorem dX1_end_5 : decode cX1_end 5 = .ok (.invokevirtual 78, 3) := dk_182 0 78 (dk_at dksX1_end_0 5 rfl rfl)
theorem dX1_end_8 : decode cX1_end 8 = .ok (.ireturn, 1) := dk_172 (dk_at dksX1_end_0 8 rfl rfl)
abbrev cX1_fault : ByteArray := prog_1_method_5_code
def yX1_fault : MethodName := ⟨RX1, "fault", "()I"⟩
def dkwX1_fault_0 : List UInt8 := [42, 180, 0, 25, 180, 0, 82, 172]
abbrev dktX1_fault_0 : List UInt8 := dkwX1_fault_0 ++ []
theorem dksX1_fault_0 : cX1_fault.data.toList.drop 0 = dktX1_fault_0 := by decide +kernel
theorem dX1_fault_0 : decode cX1_fault 0 = .ok (.aload_n 0, 1) := dk_42 (dk_at dksX1_fault_0 0 rfl rfl)
theorem dX1_fault_1 : decode cX1_fault 1 = .ok (.getfield 25, 3) := dk_180 0 25 (dk_at dksX1_fault_0 1 rfl rfl)
theorem dX1_fault_4 : decode cX1_fault 4 = .ok (.getfield 82, 3) := dk_180 0 82 (dk_at dksX1_fault_0 4 rfl rfl)
theorem dX1_fault_7 : decode cX1_fault 7 = .ok (.ireturn, 1) := dk_172 (dk_at dksX1_fault_0 7 rfl rfl)
abbrev cX1_meetings : ByteArray := prog_1_method_62_code
def yX1_meetings : MethodName := ⟨RX1, "meetings", "(Z)I"⟩
def dkwX1_meetings_4 : List UInt8 := [167, 0, 4, 28, 172]
abbrev dktX1_meetings_4 : List UInt8 := dkwX1_meetings_4 ++ []
def dkwX1_meetings_3 : List UInt8 := [182, 1, 187, 96, 62, 132, 5, 1, 167, 255, 200, 132, 4, 1, 167, 255, 179, 27, 153, 0, 7, 29]
abbrev dktX1_meetings_3 : List UInt8 := dkwX1_meetings_3 ++ dktX1_meetings_4
def dkwX1_meetings_2 : List UInt8 := [42, 42, 180, 0, 10, 21, 4, 42, 180, 0, 10, 180, 1, 159, 21, 4, 50, 21, 5, 46, 21, 5]
abbrev dktX1_meetings_2 : List UInt8 := dkwX1_meetings_2 ++ dktX1_meetings_3
def dkwX1_meetings_1 : List UInt8 := [16, 8, 162, 0, 55, 42, 42, 180, 0, 10, 21, 4, 21, 5, 182, 1, 183, 153, 0, 34, 132, 2, 1, 29]
abbrev dktX1_meetings_1 : List UInt8 := dkwX1_meetings_1 ++ dktX1_meetings_2
def dkwX1_meetings_0 : List UInt8 := [3, 61, 3, 62, 3, 54, 4, 21, 4, 42, 180, 0, 10, 180, 0, 132, 162, 0, 71, 3, 54, 5, 21, 5]
abbrev dktX1_meetings_0 : List UInt8 := dkwX1_meetings_0 ++ dktX1_meetings_1
theorem dksX1_meetings_0 : cX1_meetings.data.toList.drop 0 = dktX1_meetings_0 := by decide +kernel
theorem dksX1_meetings_1 : cX1_meetings.data.toList.drop 24 = dktX1_meetings_1 := dk_seg dksX1_meetings_0 24 rfl rfl
theorem dksX1_meetings_2 : cX1_meetings.data.toList.drop 48 = dktX1_meetings_2 := dk_seg dksX1_meetings_1 24 rfl rfl
theorem dksX1_meetings_3 : cX1_meetings.data.toList.drop 70 = dktX1_meetings_3 := dk_seg dksX1_meetings_2 22 rfl rfl
theorem dksX1_meetings_4 : cX1_meetings.data.toList.drop 92 = dktX1_meetings_4 := dk_seg dksX1_meetings_3 22 rfl rfl
theorem dX1_meetings_0 : decode cX1_meetings 0 = .ok (.iconst 0, 1) := dk_3 (dk_at dksX1_meetings_0 0 rfl rfl)
theorem dX1_meetings_1 : decode cX1_meetings 1 = .ok (.istore_n 2, 1) := dk_61 (dk_at dksX1_meetings_0 1 rfl rfl)
theorem dX1_meetings_2 : decode cX1_meetings 2 = .ok (.iconst 0, 1) := dk_3 (dk_at dksX1_meetings_0 2 rfl rfl)
theorem dX1_meetings_3 : decode cX1_meetings 3 = .ok (.istore_n 3, 1) := dk_62 (dk_at dksX1_meetings_0 3 rfl rfl)
theorem dX1_meetings_4 : decode cX1_meetings 4 = .ok (.iconst 0, 1) := dk_3 (dk_at dksX1_meetings_0 4 rfl rfl)
theorem dX1_meetings_5 : decode cX1_meetings 5 = .ok (.istore 4, 2) := dk_54 4 (dk_at dksX1_meetings_0 5 rfl rfl)
theorem dX1_meetings_7 : decode cX1_meetings 7 = .ok (.iload 4, 2) := dk_21 4 (dk_at dksX1_meetings_0 7 rfl rfl)
theorem dX1_meetings_9 : decode cX1_meetings 9 = .ok (.aload_n 0, 1) := dk_42 (dk_at dksX1_meetings_0 9 rfl rfl)
theorem dX1_meetings_10 : decode cX1_meetings 10 = .ok (.getfield 10, 3) := dk_180 0 10 (dk_at dksX1_meetings_0 10 rfl rfl)
theorem dX1_meetings_13 : decode cX1_meetings 13 = .ok (.getfield 132, 3) := dk_180 0 132 (dk_at dksX1_meetings_0 13 rfl rfl)
theorem dX1_meetings_16 : decode cX1_meetings 16 = .ok (.if_icmp .ge 71, 3) := dk_162 0 71 (dk_at dksX1_meetings_0 16 rfl rfl)
theorem dX1_meetings_19 : decode cX1_meetings 19 = .ok (.iconst 0, 1) := dk_3 (dk_at dksX1_meetings_0 19 rfl rfl)
theorem dX1_meetings_20 : decode cX1_meetings 20 = .ok (.istore 5, 2) := dk_54 5 (dk_at dksX1_meetings_0 20 rfl rfl)
theorem dX1_meetings_22 : decode cX1_meetings 22 = .ok (.iload 5, 2) := dk_21 5 (dk_at dksX1_meetings_0 22 rfl rfl)
theorem dX1_meetings_24 : decode cX1_meetings 24 = .ok (.bipush 8, 2) := dk_16 8 (dk_at dksX1_meetings_1 0 rfl rfl)
theorem dX1_meetings_26 : decode cX1_meetings 26 = .ok (.if_icmp .ge 55, 3) := dk_162 0 55 (dk_at dksX1_meetings_1 2 rfl rfl)
theorem dX1_meetings_29 : decode cX1_meetings 29 = .ok (.aload_n 0, 1) := dk_42 (dk_at dksX1_meetings_1 5 rfl rfl)
theorem dX1_meetings_30 : decode cX1_meetings 30 = .ok (.aload_n 0, 1) := dk_42 (dk_at dksX1_meetings_1 6 rfl rfl)
theorem dX1_meetings_31 : decode cX1_meetings 31 = .ok (.getfield 10, 3) := dk_180 0 10 (dk_at dksX1_meetings_1 7 rfl rfl)
theorem dX1_meetings_34 : decode cX1_meetings 34 = .ok (.iload 4, 2) := dk_21 4 (dk_at dksX1_meetings_1 10 rfl rfl)
theorem dX1_meetings_36 : decode cX1_meetings 36 = .ok (.iload 5, 2) := dk_21 5 (dk_at dksX1_meetings_1 12 rfl rfl)
theorem dX1_meetings_38 : decode cX1_meetings 38 = .ok (.invokevirtual 439, 3) := dk_182 1 183 (dk_at dksX1_meetings_1 14 rfl rfl)
theorem dX1_meetings_41 : decode cX1_meetings 41 = .ok (.ifCond .eq 34, 3) := dk_153 0 34 (dk_at dksX1_meetings_1 17 rfl rfl)
theorem dX1_meetings_44 : decode cX1_meetings 44 = .ok (.iinc 2 1, 3) := dk_132 2 1 (dk_at dksX1_meetings_1 20 rfl rfl)
theorem dX1_meetings_47 : decode cX1_meetings 47 = .ok (.iload_n 3, 1) := dk_29 (dk_at dksX1_meetings_1 23 rfl rfl)
theorem dX1_meetings_48 : decode cX1_meetings 48 = .ok (.aload_n 0, 1) := dk_42 (dk_at dksX1_meetings_2 0 rfl rfl)
theorem dX1_meetings_49 : decode cX1_meetings 49 = .ok (.aload_n 0, 1) := dk_42 (dk_at dksX1_meetings_2 1 rfl rfl)
theorem dX1_meetings_50 : decode cX1_meetings 50 = .ok (.getfield 10, 3) := dk_180 0 10 (dk_at dksX1_meetings_2 2 rfl rfl)
theorem dX1_meetings_53 : decode cX1_meetings 53 = .ok (.iload 4, 2) := dk_21 4 (dk_at dksX1_meetings_2 5 rfl rfl)
theorem dX1_meetings_55 : decode cX1_meetings 55 = .ok (.aload_n 0, 1) := dk_42 (dk_at dksX1_meetings_2 7 rfl rfl)
theorem dX1_meetings_56 : decode cX1_meetings 56 = .ok (.getfield 10, 3) := dk_180 0 10 (dk_at dksX1_meetings_2 8 rfl rfl)
theorem dX1_meetings_59 : decode cX1_meetings 59 = .ok (.getfield 415, 3) := dk_180 1 159 (dk_at dksX1_meetings_2 11 rfl rfl)
theorem dX1_meetings_62 : decode cX1_meetings 62 = .ok (.iload 4, 2) := dk_21 4 (dk_at dksX1_meetings_2 14 rfl rfl)
theorem dX1_meetings_64 : decode cX1_meetings 64 = .ok (.aaload, 1) := dk_50 (dk_at dksX1_meetings_2 16 rfl rfl)
theorem dX1_meetings_65 : decode cX1_meetings 65 = .ok (.iload 5, 2) := dk_21 5 (dk_at dksX1_meetings_2 17 rfl rfl)
theorem dX1_meetings_67 : decode cX1_meetings 67 = .ok (.iaload, 1) := dk_46 (dk_at dksX1_meetings_2 19 rfl rfl)
theorem dX1_meetings_68 : decode cX1_meetings 68 = .ok (.iload 5, 2) := dk_21 5 (dk_at dksX1_meetings_2 20 rfl rfl)
theorem dX1_meetings_70 : decode cX1_meetings 70 = .ok (.invokevirtual 443, 3) := dk_182 1 187 (dk_at dksX1_meetings_3 0 rfl rfl)
theorem dX1_meetings_73 : decode cX1_meetings 73 = .ok (.iadd, 1) := dk_96 (dk_at dksX1_meetings_3 3 rfl rfl)
theorem dX1_meetings_74 : decode cX1_meetings 74 = .ok (.istore_n 3, 1) := dk_62 (dk_at dksX1_meetings_3 4 rfl rfl)
theorem dX1_meetings_75 : decode cX1_meetings 75 = .ok (.iinc 5 1, 3) := dk_132 5 1 (dk_at dksX1_meetings_3 5 rfl rfl)
theorem dX1_meetings_78 : decode cX1_meetings 78 = .ok (.goto (-56), 3) := dk_167 255 200 (dk_at dksX1_meetings_3 8 rfl rfl)
theorem dX1_meetings_81 : decode cX1_meetings 81 = .ok (.iinc 4 1, 3) := dk_132 4 1 (dk_at dksX1_meetings_3 11 rfl rfl)
theorem dX1_meetings_84 : decode cX1_meetings 84 = .ok (.goto (-77), 3) := dk_167 255 179 (dk_at dksX1_meetings_3 14 rfl rfl)
theorem dX1_meetings_87 : decode cX1_meetings 87 = .ok (.iload_n 1, 1) := dk_27 (dk_at dksX1_meetings_3 17 rfl rfl)
theorem dX1_meetings_88 : decode cX1_meetings 88 = .ok (.ifCond .eq 7, 3) := dk_153 0 7 (dk_at dksX1_meetings_3 18 rfl rfl)
theorem dX1_meetings_91 : decode cX1_meetings 91 = .ok (.iload_n 3, 1) := dk_29 (dk_at dksX1_meetings_3 21 rfl rfl)
theorem dX1_meetings_92 : decode cX1_meetings 92 = .ok (.goto 4, 3) := dk_167 0 4 (dk_at dksX1_meetings_4 0 rfl rfl)
theorem dX1_meetings_95 : decode cX1_meetings 95 = .ok (.iload_n 2, 1) := dk_28 (dk_at dksX1_meetings_4 3 rfl rfl)
theorem dX1_meetings_96 : decode cX1_meetings 96 = .ok (.ireturn, 1) := dk_172 (dk_at dksX1_meetings_4 4 rfl rfl)
abbrev cX1_wouldMeet : ByteArray := prog_1_method_30_code
def yX1_wouldMeet : MethodName := ⟨RX1, "wouldMeet", "(LVisitingHours$World;II)Z"⟩
def dkwX1_wouldMeet_1 : List UInt8 := [153, 0, 19, 42, 43, 28, 21, 4, 29, 182, 1, 179, 153, 0, 7, 4, 167, 0, 4, 3, 172]
abbrev dktX1_wouldMeet_1 : List UInt8 := dkwX1_wouldMeet_1 ++ []
def dkwX1_wouldMeet_0 : List UInt8 := [43, 180, 1, 159, 28, 50, 29, 46, 54, 4, 21, 4, 2, 159, 0, 30, 43, 28, 21, 4, 29, 182, 1, 176]
abbrev dktX1_wouldMeet_0 : List UInt8 := dkwX1_wouldMeet_0 ++ dktX1_wouldMeet_1
theorem dksX1_wouldMeet_0 : cX1_wouldMeet.data.toList.drop 0 = dktX1_wouldMeet_0 := by decide +kernel
theorem dksX1_wouldMeet_1 : cX1_wouldMeet.data.toList.drop 24 = dktX1_wouldMeet_1 := dk_seg dksX1_wouldMeet_0 24 rfl rfl
theorem dX1_wouldMeet_0 : decode cX1_wouldMeet 0 = .ok (.aload_n 1, 1) := dk_43 (dk_at dksX1_wouldMeet_0 0 rfl rfl)
theorem dX1_wouldMeet_1 : decode cX1_wouldMeet 1 = .ok (.getfield 415, 3) := dk_180 1 159 (dk_at dksX1_wouldMeet_0 1 rfl rfl)
theorem dX1_wouldMeet_4 : decode cX1_wouldMeet 4 = .ok (.iload_n 2, 1) := dk_28 (dk_at dksX1_wouldMeet_0 4 rfl rfl)
theorem dX1_wouldMeet_5 : decode cX1_wouldMeet 5 = .ok (.aaload, 1) := dk_50 (dk_at dksX1_wouldMeet_0 5 rfl rfl)
theorem dX1_wouldMeet_6 : decode cX1_wouldMeet 6 = .ok (.iload_n 3, 1) := dk_29 (dk_at dksX1_wouldMeet_0 6 rfl rfl)
theorem dX1_wouldMeet_7 : decode cX1_wouldMeet 7 = .ok (.iaload, 1) := dk_46 (dk_at dksX1_wouldMeet_0 7 rfl rfl)
theorem dX1_wouldMeet_8 : decode cX1_wouldMeet 8 = .ok (.istore 4, 2) := dk_54 4 (dk_at dksX1_wouldMeet_0 8 rfl rfl)
theorem dX1_wouldMeet_10 : decode cX1_wouldMeet 10 = .ok (.iload 4, 2) := dk_21 4 (dk_at dksX1_wouldMeet_0 10 rfl rfl)
theorem dX1_wouldMeet_12 : decode cX1_wouldMeet 12 = .ok (.iconst (-1), 1) := dk_2 (dk_at dksX1_wouldMeet_0 12 rfl rfl)
theorem dX1_wouldMeet_13 : decode cX1_wouldMeet 13 = .ok (.if_icmp .eq 30, 3) := dk_159 0 30 (dk_at dksX1_wouldMeet_0 13 rfl rfl)
theorem dX1_wouldMeet_16 : decode cX1_wouldMeet 16 = .ok (.aload_n 1, 1) := dk_43 (dk_at dksX1_wouldMeet_0 16 rfl rfl)
theorem dX1_wouldMeet_17 : decode cX1_wouldMeet 17 = .ok (.iload_n 2, 1) := dk_28 (dk_at dksX1_wouldMeet_0 17 rfl rfl)
theorem dX1_wouldMeet_18 : decode cX1_wouldMeet 18 = .ok (.iload 4, 2) := dk_21 4 (dk_at dksX1_wouldMeet_0 18 rfl rfl)
theorem dX1_wouldMeet_20 : decode cX1_wouldMeet 20 = .ok (.iload_n 3, 1) := dk_29 (dk_at dksX1_wouldMeet_0 20 rfl rfl)
theorem dX1_wouldMeet_21 : decode cX1_wouldMeet 21 = .ok (.invokevirtual 432, 3) := dk_182 1 176 (dk_at dksX1_wouldMeet_0 21 rfl rfl)
theorem dX1_wouldMeet_24 : decode cX1_wouldMeet 24 = .ok (.ifCond .eq 19, 3) := dk_153 0 19 (dk_at dksX1_wouldMeet_1 0 rfl rfl)
theorem dX1_wouldMeet_27 : decode cX1_wouldMeet 27 = .ok (.aload_n 0, 1) := dk_42 (dk_at dksX1_wouldMeet_1 3 rfl rfl)
theorem dX1_wouldMeet_28 : decode cX1_wouldMeet 28 = .ok (.aload_n 1, 1) := dk_43 (dk_at dksX1_wouldMeet_1 4 rfl rfl)
theorem dX1_wouldMeet_29 : decode cX1_wouldMeet 29 = .ok (.iload_n 2, 1) := dk_28 (dk_at dksX1_wouldMeet_1 5 rfl rfl)
theorem dX1_wouldMeet_30 : decode cX1_wouldMeet 30 = .ok (.iload 4, 2) := dk_21 4 (dk_at dksX1_wouldMeet_1 6 rfl rfl)
theorem dX1_wouldMeet_32 : decode cX1_wouldMeet 32 = .ok (.iload_n 3, 1) := dk_29 (dk_at dksX1_wouldMeet_1 8 rfl rfl)
theorem dX1_wouldMeet_33 : decode cX1_wouldMeet 33 = .ok (.invokevirtual 435, 3) := dk_182 1 179 (dk_at dksX1_wouldMeet_1 9 rfl rfl)
theorem dX1_wouldMeet_36 : decode cX1_wouldMeet 36 = .ok (.ifCond .eq 7, 3) := dk_153 0 7 (dk_at dksX1_wouldMeet_1 12 rfl rfl)
theorem dX1_wouldMeet_39 : decode cX1_wouldMeet 39 = .ok (.iconst 1, 1) := dk_4 (dk_at dksX1_wouldMeet_1 15 rfl rfl)
theorem dX1_wouldMeet_40 : decode cX1_wouldMeet 40 = .ok (.goto 4, 3) := dk_167 0 4 (dk_at dksX1_wouldMeet_1 16 rfl rfl)
theorem dX1_wouldMeet_43 : decode cX1_wouldMeet 43 = .ok (.iconst 0, 1) := dk_3 (dk_at dksX1_wouldMeet_1 19 rfl rfl)
theorem dX1_wouldMeet_44 : decode cX1_wouldMeet 44 = .ok (.ireturn, 1) := dk_172 (dk_at dksX1_wouldMeet_1 20 rfl rfl)
abbrev cX1_has : ByteArray := prog_1_method_44_code
def yX1_has : MethodName := ⟨RX1, "has", "(II)Z"⟩
def dkwX1_has_0 : List UInt8 := [26, 27, 122, 4, 126, 4, 160, 0, 7, 4, 167, 0, 4, 3, 172]
abbrev dktX1_has_0 : List UInt8 := dkwX1_has_0 ++ []
theorem dksX1_has_0 : cX1_has.data.toList.drop 0 = dktX1_has_0 := by decide +kernel
theorem dX1_has_0 : decode cX1_has 0 = .ok (.iload_n 0, 1) := dk_26 (dk_at dksX1_has_0 0 rfl rfl)
theorem dX1_has_1 : decode cX1_has 1 = .ok (.iload_n 1, 1) := dk_27 (dk_at dksX1_has_0 1 rfl rfl)
theorem dX1_has_2 : decode cX1_has 2 = .ok (.ishr, 1) := dk_122 (dk_at dksX1_has_0 2 rfl rfl)
theorem dX1_has_3 : decode cX1_has 3 = .ok (.iconst 1, 1) := dk_4 (dk_at dksX1_has_0 3 rfl rfl)
theorem dX1_has_4 : decode cX1_has 4 = .ok (.iand, 1) := dk_126 (dk_at dksX1_has_0 4 rfl rfl)
theorem dX1_has_5 : decode cX1_has 5 = .ok (.iconst 1, 1) := dk_4 (dk_at dksX1_has_0 5 rfl rfl)
theorem dX1_has_6 : decode cX1_has 6 = .ok (.if_icmp .ne 7, 3) := dk_160 0 7 (dk_at dksX1_has_0 6 rfl rfl)
theorem dX1_has_9 : decode cX1_has 9 = .ok (.iconst 1, 1) := dk_4 (dk_at dksX1_has_0 9 rfl rfl)
theorem dX1_has_10 : decode cX1_has 10 = .ok (.goto 4, 3) := dk_167 0 4 (dk_at dksX1_has_0 10 rfl rfl)
theorem dX1_has_13 : decode cX1_has 13 = .ok (.iconst 0, 1) := dk_3 (dk_at dksX1_has_0 13 rfl rfl)
theorem dX1_has_14 : decode cX1_has 14 = .ok (.ireturn, 1) := dk_172 (dk_at dksX1_has_0 14 rfl rfl)
abbrev cX1_letsIn : ByteArray := prog_1_method_29_code
def yX1_letsIn : MethodName := ⟨RX1, "letsIn", "(LVisitingHours$World;III)Z"⟩
def dkwX1_letsIn_1 : List UInt8 := [21, 4, 182, 1, 164, 182, 1, 172, 172]
abbrev dktX1_letsIn_1 : List UInt8 := dkwX1_letsIn_1 ++ []
def dkwX1_letsIn_0 : List UInt8 := [43, 180, 1, 133, 199, 0, 11, 43, 29, 182, 1, 153, 167, 0, 19, 43, 180, 1, 133, 42, 43, 28, 29]
abbrev dktX1_letsIn_0 : List UInt8 := dkwX1_letsIn_0 ++ dktX1_letsIn_1
theorem dksX1_letsIn_0 : cX1_letsIn.data.toList.drop 0 = dktX1_letsIn_0 := by decide +kernel
theorem dksX1_letsIn_1 : cX1_letsIn.data.toList.drop 23 = dktX1_letsIn_1 := dk_seg dksX1_letsIn_0 23 rfl rfl
theorem dX1_letsIn_0 : decode cX1_letsIn 0 = .ok (.aload_n 1, 1) := dk_43 (dk_at dksX1_letsIn_0 0 rfl rfl)
theorem dX1_letsIn_1 : decode cX1_letsIn 1 = .ok (.getfield 389, 3) := dk_180 1 133 (dk_at dksX1_letsIn_0 1 rfl rfl)
theorem dX1_letsIn_4 : decode cX1_letsIn 4 = .ok (.ifnonnull 11, 3) := dk_199 0 11 (dk_at dksX1_letsIn_0 4 rfl rfl)
theorem dX1_letsIn_7 : decode cX1_letsIn 7 = .ok (.aload_n 1, 1) := dk_43 (dk_at dksX1_letsIn_0 7 rfl rfl)
theorem dX1_letsIn_8 : decode cX1_letsIn 8 = .ok (.iload_n 3, 1) := dk_29 (dk_at dksX1_letsIn_0 8 rfl rfl)
theorem dX1_letsIn_9 : decode cX1_letsIn 9 = .ok (.invokevirtual 409, 3) := dk_182 1 153 (dk_at dksX1_letsIn_0 9 rfl rfl)
theorem dX1_letsIn_12 : decode cX1_letsIn 12 = .ok (.goto 19, 3) := dk_167 0 19 (dk_at dksX1_letsIn_0 12 rfl rfl)
theorem dX1_letsIn_15 : decode cX1_letsIn 15 = .ok (.aload_n 1, 1) := dk_43 (dk_at dksX1_letsIn_0 15 rfl rfl)
theorem dX1_letsIn_16 : decode cX1_letsIn 16 = .ok (.getfield 389, 3) := dk_180 1 133 (dk_at dksX1_letsIn_0 16 rfl rfl)
theorem dX1_letsIn_19 : decode cX1_letsIn 19 = .ok (.aload_n 0, 1) := dk_42 (dk_at dksX1_letsIn_0 19 rfl rfl)
theorem dX1_letsIn_20 : decode cX1_letsIn 20 = .ok (.aload_n 1, 1) := dk_43 (dk_at dksX1_letsIn_0 20 rfl rfl)
theorem dX1_letsIn_21 : decode cX1_letsIn 21 = .ok (.iload_n 2, 1) := dk_28 (dk_at dksX1_letsIn_0 21 rfl rfl)
theorem dX1_letsIn_22 : decode cX1_letsIn 22 = .ok (.iload_n 3, 1) := dk_29 (dk_at dksX1_letsIn_0 22 rfl rfl)
theorem dX1_letsIn_23 : decode cX1_letsIn 23 = .ok (.iload 4, 2) := dk_21 4 (dk_at dksX1_letsIn_1 0 rfl rfl)
theorem dX1_letsIn_25 : decode cX1_letsIn 25 = .ok (.invokevirtual 420, 3) := dk_182 1 164 (dk_at dksX1_letsIn_1 2 rfl rfl)
theorem dX1_letsIn_28 : decode cX1_letsIn 28 = .ok (.invokevirtual 428, 3) := dk_182 1 172 (dk_at dksX1_letsIn_1 5 rfl rfl)
theorem dX1_letsIn_31 : decode cX1_letsIn 31 = .ok (.ireturn, 1) := dk_172 (dk_at dksX1_letsIn_1 8 rfl rfl)
abbrev cX1_sceneOf : ByteArray := prog_1_method_27_code
def yX1_sceneOf : MethodName := ⟨RX1, "sceneOf", "(LVisitingHours$World;III)LVisitingHours$Scene;"⟩
def dkwX1_sceneOf_5 : List UInt8 := [42, 180, 0, 32, 176]
abbrev dktX1_sceneOf_5 : List UInt8 := dkwX1_sceneOf_5 ++ []
def dkwX1_sceneOf_4 : List UInt8 := [180, 0, 32, 43, 180, 1, 159, 28, 50, 21, 4, 46, 29, 160, 0, 7, 4, 167, 0, 4, 3, 181, 1, 162]
abbrev dktX1_sceneOf_4 : List UInt8 := dkwX1_sceneOf_4 ++ dktX1_sceneOf_5
def dkwX1_sceneOf_3 : List UInt8 := [180, 0, 32, 43, 180, 0, 227, 181, 1, 152, 42, 180, 0, 32, 43, 29, 182, 1, 153, 181, 1, 156, 42]
abbrev dktX1_sceneOf_3 : List UInt8 := dkwX1_sceneOf_3 ++ dktX1_sceneOf_4
def dkwX1_sceneOf_2 : List UInt8 := [28, 50, 29, 46, 181, 1, 146, 42, 180, 0, 32, 43, 180, 0, 165, 29, 50, 28, 46, 181, 1, 149, 42]
abbrev dktX1_sceneOf_2 : List UInt8 := dkwX1_sceneOf_2 ++ dktX1_sceneOf_3
def dkwX1_sceneOf_1 : List UInt8 := [181, 1, 141, 42, 180, 0, 32, 43, 180, 0, 148, 28, 46, 181, 1, 144, 42, 180, 0, 32, 43, 180, 0, 155]
abbrev dktX1_sceneOf_1 : List UInt8 := dkwX1_sceneOf_1 ++ dktX1_sceneOf_2
def dkwX1_sceneOf_0 : List UInt8 := [42, 180, 0, 32, 28, 181, 1, 137, 42, 180, 0, 32, 29, 181, 1, 139, 42, 180, 0, 32, 21, 4]
abbrev dktX1_sceneOf_0 : List UInt8 := dkwX1_sceneOf_0 ++ dktX1_sceneOf_1
theorem dksX1_sceneOf_0 : cX1_sceneOf.data.toList.drop 0 = dktX1_sceneOf_0 := by decide +kernel
theorem dksX1_sceneOf_1 : cX1_sceneOf.data.toList.drop 22 = dktX1_sceneOf_1 := dk_seg dksX1_sceneOf_0 22 rfl rfl
theorem dksX1_sceneOf_2 : cX1_sceneOf.data.toList.drop 46 = dktX1_sceneOf_2 := dk_seg dksX1_sceneOf_1 24 rfl rfl
theorem dksX1_sceneOf_3 : cX1_sceneOf.data.toList.drop 69 = dktX1_sceneOf_3 := dk_seg dksX1_sceneOf_2 23 rfl rfl
theorem dksX1_sceneOf_4 : cX1_sceneOf.data.toList.drop 92 = dktX1_sceneOf_4 := dk_seg dksX1_sceneOf_3 23 rfl rfl
theorem dksX1_sceneOf_5 : cX1_sceneOf.data.toList.drop 116 = dktX1_sceneOf_5 := dk_seg dksX1_sceneOf_4 24 rfl rfl
theorem dX1_sceneOf_0 : decode cX1_sceneOf 0 = .ok (.aload_n 0, 1) := dk_42 (dk_at dksX1_sceneOf_0 0 rfl rfl)
theorem dX1_sceneOf_1 : decode cX1_sceneOf 1 = .ok (.getfield 32, 3) := dk_180 0 32 (dk_at dksX1_sceneOf_0 1 rfl rfl)
theorem dX1_sceneOf_4 : decode cX1_sceneOf 4 = .ok (.iload_n 2, 1) := dk_28 (dk_at dksX1_sceneOf_0 4 rfl rfl)
theorem dX1_sceneOf_5 : decode cX1_sceneOf 5 = .ok (.putfield 393, 3) := dk_181 1 137 (dk_at dksX1_sceneOf_0 5 rfl rfl)
theorem dX1_sceneOf_8 : decode cX1_sceneOf 8 = .ok (.aload_n 0, 1) := dk_42 (dk_at dksX1_sceneOf_0 8 rfl rfl)
theorem dX1_sceneOf_9 : decode cX1_sceneOf 9 = .ok (.getfield 32, 3) := dk_180 0 32 (dk_at dksX1_sceneOf_0 9 rfl rfl)
theorem dX1_sceneOf_12 : decode cX1_sceneOf 12 = .ok (.iload_n 3, 1) := dk_29 (dk_at dksX1_sceneOf_0 12 rfl rfl)
theorem dX1_sceneOf_13 : decode cX1_sceneOf 13 = .ok (.putfield 395, 3) := dk_181 1 139 (dk_at dksX1_sceneOf_0 13 rfl rfl)
theorem dX1_sceneOf_16 : decode cX1_sceneOf 16 = .ok (.aload_n 0, 1) := dk_42 (dk_at dksX1_sceneOf_0 16 rfl rfl)
theorem dX1_sceneOf_17 : decode cX1_sceneOf 17 = .ok (.getfield 32, 3) := dk_180 0 32 (dk_at dksX1_sceneOf_0 17 rfl rfl)
theorem dX1_sceneOf_20 : decode cX1_sceneOf 20 = .ok (.iload 4, 2) := dk_21 4 (dk_at dksX1_sceneOf_0 20 rfl rfl)
theorem dX1_sceneOf_22 : decode cX1_sceneOf 22 = .ok (.putfield 397, 3) := dk_181 1 141 (dk_at dksX1_sceneOf_1 0 rfl rfl)
theorem dX1_sceneOf_25 : decode cX1_sceneOf 25 = .ok (.aload_n 0, 1) := dk_42 (dk_at dksX1_sceneOf_1 3 rfl rfl)
theorem dX1_sceneOf_26 : decode cX1_sceneOf 26 = .ok (.getfield 32, 3) := dk_180 0 32 (dk_at dksX1_sceneOf_1 4 rfl rfl)
theorem dX1_sceneOf_29 : decode cX1_sceneOf 29 = .ok (.aload_n 1, 1) := dk_43 (dk_at dksX1_sceneOf_1 7 rfl rfl)
theorem dX1_sceneOf_30 : decode cX1_sceneOf 30 = .ok (.getfield 148, 3) := dk_180 0 148 (dk_at dksX1_sceneOf_1 8 rfl rfl)
theorem dX1_sceneOf_33 : decode cX1_sceneOf 33 = .ok (.iload_n 2, 1) := dk_28 (dk_at dksX1_sceneOf_1 11 rfl rfl)
theorem dX1_sceneOf_34 : decode cX1_sceneOf 34 = .ok (.iaload, 1) := dk_46 (dk_at dksX1_sceneOf_1 12 rfl rfl)
theorem dX1_sceneOf_35 : decode cX1_sceneOf 35 = .ok (.putfield 400, 3) := dk_181 1 144 (dk_at dksX1_sceneOf_1 13 rfl rfl)
theorem dX1_sceneOf_38 : decode cX1_sceneOf 38 = .ok (.aload_n 0, 1) := dk_42 (dk_at dksX1_sceneOf_1 16 rfl rfl)
theorem dX1_sceneOf_39 : decode cX1_sceneOf 39 = .ok (.getfield 32, 3) := dk_180 0 32 (dk_at dksX1_sceneOf_1 17 rfl rfl)
theorem dX1_sceneOf_42 : decode cX1_sceneOf 42 = .ok (.aload_n 1, 1) := dk_43 (dk_at dksX1_sceneOf_1 20 rfl rfl)
theorem dX1_sceneOf_43 : decode cX1_sceneOf 43 = .ok (.getfield 155, 3) := dk_180 0 155 (dk_at dksX1_sceneOf_1 21 rfl rfl)
theorem dX1_sceneOf_46 : decode cX1_sceneOf 46 = .ok (.iload_n 2, 1) := dk_28 (dk_at dksX1_sceneOf_2 0 rfl rfl)
theorem dX1_sceneOf_47 : decode cX1_sceneOf 47 = .ok (.aaload, 1) := dk_50 (dk_at dksX1_sceneOf_2 1 rfl rfl)
theorem dX1_sceneOf_48 : decode cX1_sceneOf 48 = .ok (.iload_n 3, 1) := dk_29 (dk_at dksX1_sceneOf_2 2 rfl rfl)
theorem dX1_sceneOf_49 : decode cX1_sceneOf 49 = .ok (.iaload, 1) := dk_46 (dk_at dksX1_sceneOf_2 3 rfl rfl)
theorem dX1_sceneOf_50 : decode cX1_sceneOf 50 = .ok (.putfield 402, 3) := dk_181 1 146 (dk_at dksX1_sceneOf_2 4 rfl rfl)
theorem dX1_sceneOf_53 : decode cX1_sceneOf 53 = .ok (.aload_n 0, 1) := dk_42 (dk_at dksX1_sceneOf_2 7 rfl rfl)
theorem dX1_sceneOf_54 : decode cX1_sceneOf 54 = .ok (.getfield 32, 3) := dk_180 0 32 (dk_at dksX1_sceneOf_2 8 rfl rfl)
theorem dX1_sceneOf_57 : decode cX1_sceneOf 57 = .ok (.aload_n 1, 1) := dk_43 (dk_at dksX1_sceneOf_2 11 rfl rfl)
theorem dX1_sceneOf_58 : decode cX1_sceneOf 58 = .ok (.getfield 165, 3) := dk_180 0 165 (dk_at dksX1_sceneOf_2 12 rfl rfl)
theorem dX1_sceneOf_61 : decode cX1_sceneOf 61 = .ok (.iload_n 3, 1) := dk_29 (dk_at dksX1_sceneOf_2 15 rfl rfl)
theorem dX1_sceneOf_62 : decode cX1_sceneOf 62 = .ok (.aaload, 1) := dk_50 (dk_at dksX1_sceneOf_2 16 rfl rfl)
theorem dX1_sceneOf_63 : decode cX1_sceneOf 63 = .ok (.iload_n 2, 1) := dk_28 (dk_at dksX1_sceneOf_2 17 rfl rfl)
theorem dX1_sceneOf_64 : decode cX1_sceneOf 64 = .ok (.iaload, 1) := dk_46 (dk_at dksX1_sceneOf_2 18 rfl rfl)
theorem dX1_sceneOf_65 : decode cX1_sceneOf 65 = .ok (.putfield 405, 3) := dk_181 1 149 (dk_at dksX1_sceneOf_2 19 rfl rfl)
theorem dX1_sceneOf_68 : decode cX1_sceneOf 68 = .ok (.aload_n 0, 1) := dk_42 (dk_at dksX1_sceneOf_2 22 rfl rfl)
theorem dX1_sceneOf_69 : decode cX1_sceneOf 69 = .ok (.getfield 32, 3) := dk_180 0 32 (dk_at dksX1_sceneOf_3 0 rfl rfl)
theorem dX1_sceneOf_72 : decode cX1_sceneOf 72 = .ok (.aload_n 1, 1) := dk_43 (dk_at dksX1_sceneOf_3 3 rfl rfl)
theorem dX1_sceneOf_73 : decode cX1_sceneOf 73 = .ok (.getfield 227, 3) := dk_180 0 227 (dk_at dksX1_sceneOf_3 4 rfl rfl)
theorem dX1_sceneOf_76 : decode cX1_sceneOf 76 = .ok (.putfield 408, 3) := dk_181 1 152 (dk_at dksX1_sceneOf_3 7 rfl rfl)
theorem dX1_sceneOf_79 : decode cX1_sceneOf 79 = .ok (.aload_n 0, 1) := dk_42 (dk_at dksX1_sceneOf_3 10 rfl rfl)
theorem dX1_sceneOf_80 : decode cX1_sceneOf 80 = .ok (.getfield 32, 3) := dk_180 0 32 (dk_at dksX1_sceneOf_3 11 rfl rfl)
theorem dX1_sceneOf_83 : decode cX1_sceneOf 83 = .ok (.aload_n 1, 1) := dk_43 (dk_at dksX1_sceneOf_3 14 rfl rfl)
theorem dX1_sceneOf_84 : decode cX1_sceneOf 84 = .ok (.iload_n 3, 1) := dk_29 (dk_at dksX1_sceneOf_3 15 rfl rfl)
theorem dX1_sceneOf_85 : decode cX1_sceneOf 85 = .ok (.invokevirtual 409, 3) := dk_182 1 153 (dk_at dksX1_sceneOf_3 16 rfl rfl)
theorem dX1_sceneOf_88 : decode cX1_sceneOf 88 = .ok (.putfield 412, 3) := dk_181 1 156 (dk_at dksX1_sceneOf_3 19 rfl rfl)
theorem dX1_sceneOf_91 : decode cX1_sceneOf 91 = .ok (.aload_n 0, 1) := dk_42 (dk_at dksX1_sceneOf_3 22 rfl rfl)
theorem dX1_sceneOf_92 : decode cX1_sceneOf 92 = .ok (.getfield 32, 3) := dk_180 0 32 (dk_at dksX1_sceneOf_4 0 rfl rfl)
theorem dX1_sceneOf_95 : decode cX1_sceneOf 95 = .ok (.aload_n 1, 1) := dk_43 (dk_at dksX1_sceneOf_4 3 rfl rfl)
theorem dX1_sceneOf_96 : decode cX1_sceneOf 96 = .ok (.getfield 415, 3) := dk_180 1 159 (dk_at dksX1_sceneOf_4 4 rfl rfl)
theorem dX1_sceneOf_99 : decode cX1_sceneOf 99 = .ok (.iload_n 2, 1) := dk_28 (dk_at dksX1_sceneOf_4 7 rfl rfl)
theorem dX1_sceneOf_100 : decode cX1_sceneOf 100 = .ok (.aaload, 1) := dk_50 (dk_at dksX1_sceneOf_4 8 rfl rfl)
theorem dX1_sceneOf_101 : decode cX1_sceneOf 101 = .ok (.iload 4, 2) := dk_21 4 (dk_at dksX1_sceneOf_4 9 rfl rfl)
theorem dX1_sceneOf_103 : decode cX1_sceneOf 103 = .ok (.iaload, 1) := dk_46 (dk_at dksX1_sceneOf_4 11 rfl rfl)
theorem dX1_sceneOf_104 : decode cX1_sceneOf 104 = .ok (.iload_n 3, 1) := dk_29 (dk_at dksX1_sceneOf_4 12 rfl rfl)
theorem dX1_sceneOf_105 : decode cX1_sceneOf 105 = .ok (.if_icmp .ne 7, 3) := dk_160 0 7 (dk_at dksX1_sceneOf_4 13 rfl rfl)
theorem dX1_sceneOf_108 : decode cX1_sceneOf 108 = .ok (.iconst 1, 1) := dk_4 (dk_at dksX1_sceneOf_4 16 rfl rfl)
theorem dX1_sceneOf_109 : decode cX1_sceneOf 109 = .ok (.goto 4, 3) := dk_167 0 4 (dk_at dksX1_sceneOf_4 17 rfl rfl)
theorem dX1_sceneOf_112 : decode cX1_sceneOf 112 = .ok (.iconst 0, 1) := dk_3 (dk_at dksX1_sceneOf_4 20 rfl rfl)
theorem dX1_sceneOf_113 : decode cX1_sceneOf 113 = .ok (.putfield 418, 3) := dk_181 1 162 (dk_at dksX1_sceneOf_4 21 rfl rfl)
theorem dX1_sceneOf_116 : decode cX1_sceneOf 116 = .ok (.aload_n 0, 1) := dk_42 (dk_at dksX1_sceneOf_5 0 rfl rfl)
theorem dX1_sceneOf_117 : decode cX1_sceneOf 117 = .ok (.getfield 32, 3) := dk_180 0 32 (dk_at dksX1_sceneOf_5 1 rfl rfl)
theorem dX1_sceneOf_120 : decode cX1_sceneOf 120 = .ok (.areturn, 1) := dk_176 (dk_at dksX1_sceneOf_5 4 rfl rfl)
abbrev cX1_joyBy : ByteArray := prog_1_method_28_code
def yX1_joyBy : MethodName := ⟨RX1, "joyBy", "(LVisitingHours$World;III)I"⟩
def dkwX1_joyBy_1 : List UInt8 := [28, 29, 21, 4, 182, 1, 164, 182, 1, 168, 172]
abbrev dktX1_joyBy_1 : List UInt8 := dkwX1_joyBy_1 ++ []
def dkwX1_joyBy_0 : List UInt8 := [43, 180, 1, 133, 199, 0, 14, 43, 180, 0, 155, 28, 50, 29, 46, 167, 0, 19, 43, 180, 1, 133, 42, 43]
abbrev dktX1_joyBy_0 : List UInt8 := dkwX1_joyBy_0 ++ dktX1_joyBy_1
theorem dksX1_joyBy_0 : cX1_joyBy.data.toList.drop 0 = dktX1_joyBy_0 := by decide +kernel
theorem dksX1_joyBy_1 : cX1_joyBy.data.toList.drop 24 = dktX1_joyBy_1 := dk_seg dksX1_joyBy_0 24 rfl rfl
theorem dX1_joyBy_0 : decode cX1_joyBy 0 = .ok (.aload_n 1, 1) := dk_43 (dk_at dksX1_joyBy_0 0 rfl rfl)
theorem dX1_joyBy_1 : decode cX1_joyBy 1 = .ok (.getfield 389, 3) := dk_180 1 133 (dk_at dksX1_joyBy_0 1 rfl rfl)
theorem dX1_joyBy_4 : decode cX1_joyBy 4 = .ok (.ifnonnull 14, 3) := dk_199 0 14 (dk_at dksX1_joyBy_0 4 rfl rfl)
theorem dX1_joyBy_7 : decode cX1_joyBy 7 = .ok (.aload_n 1, 1) := dk_43 (dk_at dksX1_joyBy_0 7 rfl rfl)
theorem dX1_joyBy_8 : decode cX1_joyBy 8 = .ok (.getfield 155, 3) := dk_180 0 155 (dk_at dksX1_joyBy_0 8 rfl rfl)
theorem dX1_joyBy_11 : decode cX1_joyBy 11 = .ok (.iload_n 2, 1) := dk_28 (dk_at dksX1_joyBy_0 11 rfl rfl)
theorem dX1_joyBy_12 : decode cX1_joyBy 12 = .ok (.aaload, 1) := dk_50 (dk_at dksX1_joyBy_0 12 rfl rfl)
theorem dX1_joyBy_13 : decode cX1_joyBy 13 = .ok (.iload_n 3, 1) := dk_29 (dk_at dksX1_joyBy_0 13 rfl rfl)
theorem dX1_joyBy_14 : decode cX1_joyBy 14 = .ok (.iaload, 1) := dk_46 (dk_at dksX1_joyBy_0 14 rfl rfl)
theorem dX1_joyBy_15 : decode cX1_joyBy 15 = .ok (.goto 19, 3) := dk_167 0 19 (dk_at dksX1_joyBy_0 15 rfl rfl)
theorem dX1_joyBy_18 : decode cX1_joyBy 18 = .ok (.aload_n 1, 1) := dk_43 (dk_at dksX1_joyBy_0 18 rfl rfl)
theorem dX1_joyBy_19 : decode cX1_joyBy 19 = .ok (.getfield 389, 3) := dk_180 1 133 (dk_at dksX1_joyBy_0 19 rfl rfl)
theorem dX1_joyBy_22 : decode cX1_joyBy 22 = .ok (.aload_n 0, 1) := dk_42 (dk_at dksX1_joyBy_0 22 rfl rfl)
theorem dX1_joyBy_23 : decode cX1_joyBy 23 = .ok (.aload_n 1, 1) := dk_43 (dk_at dksX1_joyBy_0 23 rfl rfl)
theorem dX1_joyBy_24 : decode cX1_joyBy 24 = .ok (.iload_n 2, 1) := dk_28 (dk_at dksX1_joyBy_1 0 rfl rfl)
theorem dX1_joyBy_25 : decode cX1_joyBy 25 = .ok (.iload_n 3, 1) := dk_29 (dk_at dksX1_joyBy_1 1 rfl rfl)
theorem dX1_joyBy_26 : decode cX1_joyBy 26 = .ok (.iload 4, 2) := dk_21 4 (dk_at dksX1_joyBy_1 2 rfl rfl)
theorem dX1_joyBy_28 : decode cX1_joyBy 28 = .ok (.invokevirtual 420, 3) := dk_182 1 164 (dk_at dksX1_joyBy_1 4 rfl rfl)
theorem dX1_joyBy_31 : decode cX1_joyBy 31 = .ok (.invokevirtual 424, 3) := dk_182 1 168 (dk_at dksX1_joyBy_1 7 rfl rfl)
theorem dX1_joyBy_34 : decode cX1_joyBy 34 = .ok (.ireturn, 1) := dk_172 (dk_at dksX1_joyBy_1 10 rfl rfl)
abbrev cX1_twice : ByteArray := prog_1_method_63_code
def yX1_twice : MethodName := ⟨RX1, "twice", "()I"⟩
def dkwX1_twice_3 : List UInt8 := [120, 167, 0, 4, 3, 128, 60, 132, 2, 1, 167, 255, 180, 27, 172]
abbrev dktX1_twice_3 : List UInt8 := dkwX1_twice_3 ++ []
def dkwX1_twice_2 : List UInt8 := [153, 0, 7, 4, 167, 0, 4, 3, 96, 62, 132, 4, 1, 167, 255, 217, 27, 29, 4, 164, 0, 9, 4, 28]
abbrev dktX1_twice_2 : List UInt8 := dkwX1_twice_2 ++ dktX1_twice_3
def dkwX1_twice_1 : List UInt8 := [180, 0, 10, 180, 0, 132, 162, 0, 33, 29, 42, 180, 0, 10, 21, 4, 182, 1, 254, 28, 184, 0, 128]
abbrev dktX1_twice_1 : List UInt8 := dkwX1_twice_1 ++ dktX1_twice_2
def dkwX1_twice_0 : List UInt8 := [3, 60, 3, 61, 28, 42, 180, 0, 10, 180, 0, 168, 162, 0, 71, 3, 62, 3, 54, 4, 21, 4, 42]
abbrev dktX1_twice_0 : List UInt8 := dkwX1_twice_0 ++ dktX1_twice_1
theorem dksX1_twice_0 : cX1_twice.data.toList.drop 0 = dktX1_twice_0 := by decide +kernel
theorem dksX1_twice_1 : cX1_twice.data.toList.drop 23 = dktX1_twice_1 := dk_seg dksX1_twice_0 23 rfl rfl
theorem dksX1_twice_2 : cX1_twice.data.toList.drop 46 = dktX1_twice_2 := dk_seg dksX1_twice_1 23 rfl rfl
theorem dksX1_twice_3 : cX1_twice.data.toList.drop 70 = dktX1_twice_3 := dk_seg dksX1_twice_2 24 rfl rfl
theorem dX1_twice_0 : decode cX1_twice 0 = .ok (.iconst 0, 1) := dk_3 (dk_at dksX1_twice_0 0 rfl rfl)
theorem dX1_twice_1 : decode cX1_twice 1 = .ok (.istore_n 1, 1) := dk_60 (dk_at dksX1_twice_0 1 rfl rfl)
theorem dX1_twice_2 : decode cX1_twice 2 = .ok (.iconst 0, 1) := dk_3 (dk_at dksX1_twice_0 2 rfl rfl)
theorem dX1_twice_3 : decode cX1_twice 3 = .ok (.istore_n 2, 1) := dk_61 (dk_at dksX1_twice_0 3 rfl rfl)
theorem dX1_twice_4 : decode cX1_twice 4 = .ok (.iload_n 2, 1) := dk_28 (dk_at dksX1_twice_0 4 rfl rfl)
theorem dX1_twice_5 : decode cX1_twice 5 = .ok (.aload_n 0, 1) := dk_42 (dk_at dksX1_twice_0 5 rfl rfl)
theorem dX1_twice_6 : decode cX1_twice 6 = .ok (.getfield 10, 3) := dk_180 0 10 (dk_at dksX1_twice_0 6 rfl rfl)
theorem dX1_twice_9 : decode cX1_twice 9 = .ok (.getfield 168, 3) := dk_180 0 168 (dk_at dksX1_twice_0 9 rfl rfl)
theorem dX1_twice_12 : decode cX1_twice 12 = .ok (.if_icmp .ge 71, 3) := dk_162 0 71 (dk_at dksX1_twice_0 12 rfl rfl)
theorem dX1_twice_15 : decode cX1_twice 15 = .ok (.iconst 0, 1) := dk_3 (dk_at dksX1_twice_0 15 rfl rfl)
theorem dX1_twice_16 : decode cX1_twice 16 = .ok (.istore_n 3, 1) := dk_62 (dk_at dksX1_twice_0 16 rfl rfl)
theorem dX1_twice_17 : decode cX1_twice 17 = .ok (.iconst 0, 1) := dk_3 (dk_at dksX1_twice_0 17 rfl rfl)
theorem dX1_twice_18 : decode cX1_twice 18 = .ok (.istore 4, 2) := dk_54 4 (dk_at dksX1_twice_0 18 rfl rfl)
theorem dX1_twice_20 : decode cX1_twice 20 = .ok (.iload 4, 2) := dk_21 4 (dk_at dksX1_twice_0 20 rfl rfl)
theorem dX1_twice_22 : decode cX1_twice 22 = .ok (.aload_n 0, 1) := dk_42 (dk_at dksX1_twice_0 22 rfl rfl)
theorem dX1_twice_23 : decode cX1_twice 23 = .ok (.getfield 10, 3) := dk_180 0 10 (dk_at dksX1_twice_1 0 rfl rfl)
theorem dX1_twice_26 : decode cX1_twice 26 = .ok (.getfield 132, 3) := dk_180 0 132 (dk_at dksX1_twice_1 3 rfl rfl)
theorem dX1_twice_29 : decode cX1_twice 29 = .ok (.if_icmp .ge 33, 3) := dk_162 0 33 (dk_at dksX1_twice_1 6 rfl rfl)
theorem dX1_twice_32 : decode cX1_twice 32 = .ok (.iload_n 3, 1) := dk_29 (dk_at dksX1_twice_1 9 rfl rfl)
theorem dX1_twice_33 : decode cX1_twice 33 = .ok (.aload_n 0, 1) := dk_42 (dk_at dksX1_twice_1 10 rfl rfl)
theorem dX1_twice_34 : decode cX1_twice 34 = .ok (.getfield 10, 3) := dk_180 0 10 (dk_at dksX1_twice_1 11 rfl rfl)
theorem dX1_twice_37 : decode cX1_twice 37 = .ok (.iload 4, 2) := dk_21 4 (dk_at dksX1_twice_1 14 rfl rfl)
theorem dX1_twice_39 : decode cX1_twice 39 = .ok (.invokevirtual 510, 3) := dk_182 1 254 (dk_at dksX1_twice_1 16 rfl rfl)
theorem dX1_twice_42 : decode cX1_twice 42 = .ok (.iload_n 2, 1) := dk_28 (dk_at dksX1_twice_1 19 rfl rfl)
theorem dX1_twice_43 : decode cX1_twice 43 = .ok (.invokestatic 128, 3) := dk_184 0 128 (dk_at dksX1_twice_1 20 rfl rfl)
theorem dX1_twice_46 : decode cX1_twice 46 = .ok (.ifCond .eq 7, 3) := dk_153 0 7 (dk_at dksX1_twice_2 0 rfl rfl)
theorem dX1_twice_49 : decode cX1_twice 49 = .ok (.iconst 1, 1) := dk_4 (dk_at dksX1_twice_2 3 rfl rfl)
theorem dX1_twice_50 : decode cX1_twice 50 = .ok (.goto 4, 3) := dk_167 0 4 (dk_at dksX1_twice_2 4 rfl rfl)
theorem dX1_twice_53 : decode cX1_twice 53 = .ok (.iconst 0, 1) := dk_3 (dk_at dksX1_twice_2 7 rfl rfl)
theorem dX1_twice_54 : decode cX1_twice 54 = .ok (.iadd, 1) := dk_96 (dk_at dksX1_twice_2 8 rfl rfl)
theorem dX1_twice_55 : decode cX1_twice 55 = .ok (.istore_n 3, 1) := dk_62 (dk_at dksX1_twice_2 9 rfl rfl)
theorem dX1_twice_56 : decode cX1_twice 56 = .ok (.iinc 4 1, 3) := dk_132 4 1 (dk_at dksX1_twice_2 10 rfl rfl)
theorem dX1_twice_59 : decode cX1_twice 59 = .ok (.goto (-39), 3) := dk_167 255 217 (dk_at dksX1_twice_2 13 rfl rfl)
theorem dX1_twice_62 : decode cX1_twice 62 = .ok (.iload_n 1, 1) := dk_27 (dk_at dksX1_twice_2 16 rfl rfl)
theorem dX1_twice_63 : decode cX1_twice 63 = .ok (.iload_n 3, 1) := dk_29 (dk_at dksX1_twice_2 17 rfl rfl)
theorem dX1_twice_64 : decode cX1_twice 64 = .ok (.iconst 1, 1) := dk_4 (dk_at dksX1_twice_2 18 rfl rfl)
theorem dX1_twice_65 : decode cX1_twice 65 = .ok (.if_icmp .le 9, 3) := dk_164 0 9 (dk_at dksX1_twice_2 19 rfl rfl)
theorem dX1_twice_68 : decode cX1_twice 68 = .ok (.iconst 1, 1) := dk_4 (dk_at dksX1_twice_2 22 rfl rfl)
theorem dX1_twice_69 : decode cX1_twice 69 = .ok (.iload_n 2, 1) := dk_28 (dk_at dksX1_twice_2 23 rfl rfl)
theorem dX1_twice_70 : decode cX1_twice 70 = .ok (.ishl, 1) := dk_120 (dk_at dksX1_twice_3 0 rfl rfl)
theorem dX1_twice_71 : decode cX1_twice 71 = .ok (.goto 4, 3) := dk_167 0 4 (dk_at dksX1_twice_3 1 rfl rfl)
theorem dX1_twice_74 : decode cX1_twice 74 = .ok (.iconst 0, 1) := dk_3 (dk_at dksX1_twice_3 4 rfl rfl)
theorem dX1_twice_75 : decode cX1_twice 75 = .ok (.ior, 1) := dk_128 (dk_at dksX1_twice_3 5 rfl rfl)
theorem dX1_twice_76 : decode cX1_twice 76 = .ok (.istore_n 1, 1) := dk_60 (dk_at dksX1_twice_3 6 rfl rfl)
theorem dX1_twice_77 : decode cX1_twice 77 = .ok (.iinc 2 1, 3) := dk_132 2 1 (dk_at dksX1_twice_3 7 rfl rfl)
theorem dX1_twice_80 : decode cX1_twice 80 = .ok (.goto (-76), 3) := dk_167 255 180 (dk_at dksX1_twice_3 10 rfl rfl)
theorem dX1_twice_83 : decode cX1_twice 83 = .ok (.iload_n 1, 1) := dk_27 (dk_at dksX1_twice_3 13 rfl rfl)
theorem dX1_twice_84 : decode cX1_twice 84 = .ok (.ireturn, 1) := dk_172 (dk_at dksX1_twice_3 14 rfl rfl)
abbrev cX1_taboo : ByteArray := prog_1_method_64_code
def yX1_taboo : MethodName := ⟨RX1, "taboo", "()I"⟩
def dkwX1_taboo_3 : List UInt8 := [167, 255, 192, 27, 172]
abbrev dktX1_taboo_3 : List UInt8 := dkwX1_taboo_3 ++ []
def dkwX1_taboo_2 : List UInt8 := [182, 1, 183, 154, 0, 7, 4, 167, 0, 4, 3, 96, 60, 132, 3, 1, 167, 255, 211, 132, 2, 1]
abbrev dktX1_taboo_2 : List UInt8 := dkwX1_taboo_2 ++ dktX1_taboo_3
def dkwX1_taboo_1 : List UInt8 := [42, 180, 0, 10, 180, 1, 159, 28, 50, 29, 46, 2, 159, 0, 20, 42, 42, 180, 0, 10, 28, 29]
abbrev dktX1_taboo_1 : List UInt8 := dkwX1_taboo_1 ++ dktX1_taboo_2
def dkwX1_taboo_0 : List UInt8 := [3, 60, 3, 61, 28, 42, 180, 0, 10, 180, 0, 132, 162, 0, 59, 3, 62, 29, 16, 8, 162, 0, 45, 27]
abbrev dktX1_taboo_0 : List UInt8 := dkwX1_taboo_0 ++ dktX1_taboo_1
theorem dksX1_taboo_0 : cX1_taboo.data.toList.drop 0 = dktX1_taboo_0 := by decide +kernel
theorem dksX1_taboo_1 : cX1_taboo.data.toList.drop 24 = dktX1_taboo_1 := dk_seg dksX1_taboo_0 24 rfl rfl
theorem dksX1_taboo_2 : cX1_taboo.data.toList.drop 46 = dktX1_taboo_2 := dk_seg dksX1_taboo_1 22 rfl rfl
theorem dksX1_taboo_3 : cX1_taboo.data.toList.drop 68 = dktX1_taboo_3 := dk_seg dksX1_taboo_2 22 rfl rfl
theorem dX1_taboo_0 : decode cX1_taboo 0 = .ok (.iconst 0, 1) := dk_3 (dk_at dksX1_taboo_0 0 rfl rfl)
theorem dX1_taboo_1 : decode cX1_taboo 1 = .ok (.istore_n 1, 1) := dk_60 (dk_at dksX1_taboo_0 1 rfl rfl)
theorem dX1_taboo_2 : decode cX1_taboo 2 = .ok (.iconst 0, 1) := dk_3 (dk_at dksX1_taboo_0 2 rfl rfl)
theorem dX1_taboo_3 : decode cX1_taboo 3 = .ok (.istore_n 2, 1) := dk_61 (dk_at dksX1_taboo_0 3 rfl rfl)
theorem dX1_taboo_4 : decode cX1_taboo 4 = .ok (.iload_n 2, 1) := dk_28 (dk_at dksX1_taboo_0 4 rfl rfl)
theorem dX1_taboo_5 : decode cX1_taboo 5 = .ok (.aload_n 0, 1) := dk_42 (dk_at dksX1_taboo_0 5 rfl rfl)
theorem dX1_taboo_6 : decode cX1_taboo 6 = .ok (.getfield 10, 3) := dk_180 0 10 (dk_at dksX1_taboo_0 6 rfl rfl)
theorem dX1_taboo_9 : decode cX1_taboo 9 = .ok (.getfield 132, 3) := dk_180 0 132 (dk_at dksX1_taboo_0 9 rfl rfl)
theorem dX1_taboo_12 : decode cX1_taboo 12 = .ok (.if_icmp .ge 59, 3) := dk_162 0 59 (dk_at dksX1_taboo_0 12 rfl rfl)
theorem dX1_taboo_15 : decode cX1_taboo 15 = .ok (.iconst 0, 1) := dk_3 (dk_at dksX1_taboo_0 15 rfl rfl)
theorem dX1_taboo_16 : decode cX1_taboo 16 = .ok (.istore_n 3, 1) := dk_62 (dk_at dksX1_taboo_0 16 rfl rfl)
theorem dX1_taboo_17 : decode cX1_taboo 17 = .ok (.iload_n 3, 1) := dk_29 (dk_at dksX1_taboo_0 17 rfl rfl)
theorem dX1_taboo_18 : decode cX1_taboo 18 = .ok (.bipush 8, 2) := dk_16 8 (dk_at dksX1_taboo_0 18 rfl rfl)
theorem dX1_taboo_20 : decode cX1_taboo 20 = .ok (.if_icmp .ge 45, 3) := dk_162 0 45 (dk_at dksX1_taboo_0 20 rfl rfl)
theorem dX1_taboo_23 : decode cX1_taboo 23 = .ok (.iload_n 1, 1) := dk_27 (dk_at dksX1_taboo_0 23 rfl rfl)
theorem dX1_taboo_24 : decode cX1_taboo 24 = .ok (.aload_n 0, 1) := dk_42 (dk_at dksX1_taboo_1 0 rfl rfl)
theorem dX1_taboo_25 : decode cX1_taboo 25 = .ok (.getfield 10, 3) := dk_180 0 10 (dk_at dksX1_taboo_1 1 rfl rfl)
theorem dX1_taboo_28 : decode cX1_taboo 28 = .ok (.getfield 415, 3) := dk_180 1 159 (dk_at dksX1_taboo_1 4 rfl rfl)
theorem dX1_taboo_31 : decode cX1_taboo 31 = .ok (.iload_n 2, 1) := dk_28 (dk_at dksX1_taboo_1 7 rfl rfl)
theorem dX1_taboo_32 : decode cX1_taboo 32 = .ok (.aaload, 1) := dk_50 (dk_at dksX1_taboo_1 8 rfl rfl)
theorem dX1_taboo_33 : decode cX1_taboo 33 = .ok (.iload_n 3, 1) := dk_29 (dk_at dksX1_taboo_1 9 rfl rfl)
theorem dX1_taboo_34 : decode cX1_taboo 34 = .ok (.iaload, 1) := dk_46 (dk_at dksX1_taboo_1 10 rfl rfl)
theorem dX1_taboo_35 : decode cX1_taboo 35 = .ok (.iconst (-1), 1) := dk_2 (dk_at dksX1_taboo_1 11 rfl rfl)
theorem dX1_taboo_36 : decode cX1_taboo 36 = .ok (.if_icmp .eq 20, 3) := dk_159 0 20 (dk_at dksX1_taboo_1 12 rfl rfl)
theorem dX1_taboo_39 : decode cX1_taboo 39 = .ok (.aload_n 0, 1) := dk_42 (dk_at dksX1_taboo_1 15 rfl rfl)
theorem dX1_taboo_40 : decode cX1_taboo 40 = .ok (.aload_n 0, 1) := dk_42 (dk_at dksX1_taboo_1 16 rfl rfl)
theorem dX1_taboo_41 : decode cX1_taboo 41 = .ok (.getfield 10, 3) := dk_180 0 10 (dk_at dksX1_taboo_1 17 rfl rfl)
theorem dX1_taboo_44 : decode cX1_taboo 44 = .ok (.iload_n 2, 1) := dk_28 (dk_at dksX1_taboo_1 20 rfl rfl)
theorem dX1_taboo_45 : decode cX1_taboo 45 = .ok (.iload_n 3, 1) := dk_29 (dk_at dksX1_taboo_1 21 rfl rfl)
theorem dX1_taboo_46 : decode cX1_taboo 46 = .ok (.invokevirtual 439, 3) := dk_182 1 183 (dk_at dksX1_taboo_2 0 rfl rfl)
theorem dX1_taboo_49 : decode cX1_taboo 49 = .ok (.ifCond .ne 7, 3) := dk_154 0 7 (dk_at dksX1_taboo_2 3 rfl rfl)
theorem dX1_taboo_52 : decode cX1_taboo 52 = .ok (.iconst 1, 1) := dk_4 (dk_at dksX1_taboo_2 6 rfl rfl)
theorem dX1_taboo_53 : decode cX1_taboo 53 = .ok (.goto 4, 3) := dk_167 0 4 (dk_at dksX1_taboo_2 7 rfl rfl)
theorem dX1_taboo_56 : decode cX1_taboo 56 = .ok (.iconst 0, 1) := dk_3 (dk_at dksX1_taboo_2 10 rfl rfl)
theorem dX1_taboo_57 : decode cX1_taboo 57 = .ok (.iadd, 1) := dk_96 (dk_at dksX1_taboo_2 11 rfl rfl)
theorem dX1_taboo_58 : decode cX1_taboo 58 = .ok (.istore_n 1, 1) := dk_60 (dk_at dksX1_taboo_2 12 rfl rfl)
theorem dX1_taboo_59 : decode cX1_taboo 59 = .ok (.iinc 3 1, 3) := dk_132 3 1 (dk_at dksX1_taboo_2 13 rfl rfl)
theorem dX1_taboo_62 : decode cX1_taboo 62 = .ok (.goto (-45), 3) := dk_167 255 211 (dk_at dksX1_taboo_2 16 rfl rfl)
theorem dX1_taboo_65 : decode cX1_taboo 65 = .ok (.iinc 2 1, 3) := dk_132 2 1 (dk_at dksX1_taboo_2 19 rfl rfl)
theorem dX1_taboo_68 : decode cX1_taboo 68 = .ok (.goto (-64), 3) := dk_167 255 192 (dk_at dksX1_taboo_3 0 rfl rfl)
theorem dX1_taboo_71 : decode cX1_taboo 71 = .ok (.iload_n 1, 1) := dk_27 (dk_at dksX1_taboo_3 3 rfl rfl)
theorem dX1_taboo_72 : decode cX1_taboo 72 = .ok (.ireturn, 1) := dk_172 (dk_at dksX1_taboo_3 4 rfl rfl)
abbrev cX1_ways : ByteArray := prog_1_method_67_code
def yX1_ways : MethodName := ⟨RX1, "ways", "()I"⟩
def dkwX1_ways_0 : List UInt8 := [42, 180, 0, 51, 182, 2, 37, 172]
abbrev dktX1_ways_0 : List UInt8 := dkwX1_ways_0 ++ []
theorem dksX1_ways_0 : cX1_ways.data.toList.drop 0 = dktX1_ways_0 := by decide +kernel
theorem dX1_ways_0 : decode cX1_ways 0 = .ok (.aload_n 0, 1) := dk_42 (dk_at dksX1_ways_0 0 rfl rfl)
theorem dX1_ways_1 : decode cX1_ways 1 = .ok (.getfield 51, 3) := dk_180 0 51 (dk_at dksX1_ways_0 1 rfl rfl)
theorem dX1_ways_4 : decode cX1_ways 4 = .ok (.invokevirtual 549, 3) := dk_182 2 37 (dk_at dksX1_ways_0 4 rfl rfl)
theorem dX1_ways_7 : decode cX1_ways 7 = .ok (.ireturn, 1) := dk_172 (dk_at dksX1_ways_0 7 rfl rfl)
abbrev cX1_dry : ByteArray := prog_1_method_88_code
def yX1_dry : MethodName := ⟨RX1, "dry", "()I"⟩
def dkwX1_dry_1 : List UInt8 := [162, 0, 13, 42, 28, 182, 2, 108, 153, 0, 5, 28, 60, 132, 2, 1, 167, 255, 220, 27, 172]
abbrev dktX1_dry_1 : List UInt8 := dkwX1_dry_1 ++ []
def dkwX1_dry_0 : List UInt8 := [2, 60, 3, 61, 28, 17, 1, 0, 162, 0, 35, 27, 2, 159, 0, 14, 28, 184, 2, 73, 27, 184, 2, 73]
abbrev dktX1_dry_0 : List UInt8 := dkwX1_dry_0 ++ dktX1_dry_1
theorem dksX1_dry_0 : cX1_dry.data.toList.drop 0 = dktX1_dry_0 := by decide +kernel
theorem dksX1_dry_1 : cX1_dry.data.toList.drop 24 = dktX1_dry_1 := dk_seg dksX1_dry_0 24 rfl rfl
theorem dX1_dry_0 : decode cX1_dry 0 = .ok (.iconst (-1), 1) := dk_2 (dk_at dksX1_dry_0 0 rfl rfl)
theorem dX1_dry_1 : decode cX1_dry 1 = .ok (.istore_n 1, 1) := dk_60 (dk_at dksX1_dry_0 1 rfl rfl)
theorem dX1_dry_2 : decode cX1_dry 2 = .ok (.iconst 0, 1) := dk_3 (dk_at dksX1_dry_0 2 rfl rfl)
theorem dX1_dry_3 : decode cX1_dry 3 = .ok (.istore_n 2, 1) := dk_61 (dk_at dksX1_dry_0 3 rfl rfl)
theorem dX1_dry_4 : decode cX1_dry 4 = .ok (.iload_n 2, 1) := dk_28 (dk_at dksX1_dry_0 4 rfl rfl)
theorem dX1_dry_5 : decode cX1_dry 5 = .ok (.sipush 256, 3) := dk_17 1 0 (dk_at dksX1_dry_0 5 rfl rfl)
theorem dX1_dry_8 : decode cX1_dry 8 = .ok (.if_icmp .ge 35, 3) := dk_162 0 35 (dk_at dksX1_dry_0 8 rfl rfl)
theorem dX1_dry_11 : decode cX1_dry 11 = .ok (.iload_n 1, 1) := dk_27 (dk_at dksX1_dry_0 11 rfl rfl)
theorem dX1_dry_12 : decode cX1_dry 12 = .ok (.iconst (-1), 1) := dk_2 (dk_at dksX1_dry_0 12 rfl rfl)
theorem dX1_dry_13 : decode cX1_dry 13 = .ok (.if_icmp .eq 14, 3) := dk_159 0 14 (dk_at dksX1_dry_0 13 rfl rfl)
theorem dX1_dry_16 : decode cX1_dry 16 = .ok (.iload_n 2, 1) := dk_28 (dk_at dksX1_dry_0 16 rfl rfl)
theorem dX1_dry_17 : decode cX1_dry 17 = .ok (.invokestatic 585, 3) := dk_184 2 73 (dk_at dksX1_dry_0 17 rfl rfl)
theorem dX1_dry_20 : decode cX1_dry 20 = .ok (.iload_n 1, 1) := dk_27 (dk_at dksX1_dry_0 20 rfl rfl)
theorem dX1_dry_21 : decode cX1_dry 21 = .ok (.invokestatic 585, 3) := dk_184 2 73 (dk_at dksX1_dry_0 21 rfl rfl)
theorem dX1_dry_24 : decode cX1_dry 24 = .ok (.if_icmp .ge 13, 3) := dk_162 0 13 (dk_at dksX1_dry_1 0 rfl rfl)
theorem dX1_dry_27 : decode cX1_dry 27 = .ok (.aload_n 0, 1) := dk_42 (dk_at dksX1_dry_1 3 rfl rfl)
theorem dX1_dry_28 : decode cX1_dry 28 = .ok (.iload_n 2, 1) := dk_28 (dk_at dksX1_dry_1 4 rfl rfl)
theorem dX1_dry_29 : decode cX1_dry 29 = .ok (.invokevirtual 620, 3) := dk_182 2 108 (dk_at dksX1_dry_1 5 rfl rfl)
theorem dX1_dry_32 : decode cX1_dry 32 = .ok (.ifCond .eq 5, 3) := dk_153 0 5 (dk_at dksX1_dry_1 8 rfl rfl)
theorem dX1_dry_35 : decode cX1_dry 35 = .ok (.iload_n 2, 1) := dk_28 (dk_at dksX1_dry_1 11 rfl rfl)
theorem dX1_dry_36 : decode cX1_dry 36 = .ok (.istore_n 1, 1) := dk_60 (dk_at dksX1_dry_1 12 rfl rfl)
theorem dX1_dry_37 : decode cX1_dry 37 = .ok (.iinc 2 1, 3) := dk_132 2 1 (dk_at dksX1_dry_1 13 rfl rfl)
theorem dX1_dry_40 : decode cX1_dry 40 = .ok (.goto (-36), 3) := dk_167 255 220 (dk_at dksX1_dry_1 16 rfl rfl)
theorem dX1_dry_43 : decode cX1_dry 43 = .ok (.iload_n 1, 1) := dk_27 (dk_at dksX1_dry_1 19 rfl rfl)
theorem dX1_dry_44 : decode cX1_dry 44 = .ok (.ireturn, 1) := dk_172 (dk_at dksX1_dry_1 20 rfl rfl)
abbrev cX1_allMeet : ByteArray := prog_1_method_87_code
def yX1_allMeet : MethodName := ⟨RX1, "allMeet", "(I)Z"⟩
def dkwX1_allMeet_1 : List UInt8 := [182, 2, 105, 27, 126, 154, 0, 5, 3, 172, 132, 2, 1, 167, 255, 222, 4, 172]
abbrev dktX1_allMeet_1 : List UInt8 := dkwX1_allMeet_1 ++ []
def dkwX1_allMeet_0 : List UInt8 := [3, 61, 28, 42, 180, 0, 10, 180, 0, 132, 162, 0, 29, 42, 28, 182, 2, 105, 153, 0, 15, 42, 28]
abbrev dktX1_allMeet_0 : List UInt8 := dkwX1_allMeet_0 ++ dktX1_allMeet_1
theorem dksX1_allMeet_0 : cX1_allMeet.data.toList.drop 0 = dktX1_allMeet_0 := by decide +kernel
theorem dksX1_allMeet_1 : cX1_allMeet.data.toList.drop 23 = dktX1_allMeet_1 := dk_seg dksX1_allMeet_0 23 rfl rfl
theorem dX1_allMeet_0 : decode cX1_allMeet 0 = .ok (.iconst 0, 1) := dk_3 (dk_at dksX1_allMeet_0 0 rfl rfl)
theorem dX1_allMeet_1 : decode cX1_allMeet 1 = .ok (.istore_n 2, 1) := dk_61 (dk_at dksX1_allMeet_0 1 rfl rfl)
theorem dX1_allMeet_2 : decode cX1_allMeet 2 = .ok (.iload_n 2, 1) := dk_28 (dk_at dksX1_allMeet_0 2 rfl rfl)
theorem dX1_allMeet_3 : decode cX1_allMeet 3 = .ok (.aload_n 0, 1) := dk_42 (dk_at dksX1_allMeet_0 3 rfl rfl)
theorem dX1_allMeet_4 : decode cX1_allMeet 4 = .ok (.getfield 10, 3) := dk_180 0 10 (dk_at dksX1_allMeet_0 4 rfl rfl)
theorem dX1_allMeet_7 : decode cX1_allMeet 7 = .ok (.getfield 132, 3) := dk_180 0 132 (dk_at dksX1_allMeet_0 7 rfl rfl)
theorem dX1_allMeet_10 : decode cX1_allMeet 10 = .ok (.if_icmp .ge 29, 3) := dk_162 0 29 (dk_at dksX1_allMeet_0 10 rfl rfl)
theorem dX1_allMeet_13 : decode cX1_allMeet 13 = .ok (.aload_n 0, 1) := dk_42 (dk_at dksX1_allMeet_0 13 rfl rfl)
theorem dX1_allMeet_14 : decode cX1_allMeet 14 = .ok (.iload_n 2, 1) := dk_28 (dk_at dksX1_allMeet_0 14 rfl rfl)
theorem dX1_allMeet_15 : decode cX1_allMeet 15 = .ok (.invokevirtual 617, 3) := dk_182 2 105 (dk_at dksX1_allMeet_0 15 rfl rfl)
theorem dX1_allMeet_18 : decode cX1_allMeet 18 = .ok (.ifCond .eq 15, 3) := dk_153 0 15 (dk_at dksX1_allMeet_0 18 rfl rfl)
theorem dX1_allMeet_21 : decode cX1_allMeet 21 = .ok (.aload_n 0, 1) := dk_42 (dk_at dksX1_allMeet_0 21 rfl rfl)
theorem dX1_allMeet_22 : decode cX1_allMeet 22 = .ok (.iload_n 2, 1) := dk_28 (dk_at dksX1_allMeet_0 22 rfl rfl)
theorem dX1_allMeet_23 : decode cX1_allMeet 23 = .ok (.invokevirtual 617, 3) := dk_182 2 105 (dk_at dksX1_allMeet_1 0 rfl rfl)
theorem dX1_allMeet_26 : decode cX1_allMeet 26 = .ok (.iload_n 1, 1) := dk_27 (dk_at dksX1_allMeet_1 3 rfl rfl)
theorem dX1_allMeet_27 : decode cX1_allMeet 27 = .ok (.iand, 1) := dk_126 (dk_at dksX1_allMeet_1 4 rfl rfl)
theorem dX1_allMeet_28 : decode cX1_allMeet 28 = .ok (.ifCond .ne 5, 3) := dk_154 0 5 (dk_at dksX1_allMeet_1 5 rfl rfl)
theorem dX1_allMeet_31 : decode cX1_allMeet 31 = .ok (.iconst 0, 1) := dk_3 (dk_at dksX1_allMeet_1 8 rfl rfl)
theorem dX1_allMeet_32 : decode cX1_allMeet 32 = .ok (.ireturn, 1) := dk_172 (dk_at dksX1_allMeet_1 9 rfl rfl)
theorem dX1_allMeet_33 : decode cX1_allMeet 33 = .ok (.iinc 2 1, 3) := dk_132 2 1 (dk_at dksX1_allMeet_1 10 rfl rfl)
theorem dX1_allMeet_36 : decode cX1_allMeet 36 = .ok (.goto (-34), 3) := dk_167 255 222 (dk_at dksX1_allMeet_1 13 rfl rfl)
theorem dX1_allMeet_39 : decode cX1_allMeet 39 = .ok (.iconst 1, 1) := dk_4 (dk_at dksX1_allMeet_1 16 rfl rfl)
theorem dX1_allMeet_40 : decode cX1_allMeet 40 = .ok (.ireturn, 1) := dk_172 (dk_at dksX1_allMeet_1 17 rfl rfl)
abbrev cX1_meetsIn : ByteArray := prog_1_method_86_code
def yX1_meetsIn : MethodName := ⟨RX1, "meetsIn", "(I)I"⟩
def dkwX1_meetsIn_1 : List UInt8 := [4, 29, 120, 167, 0, 4, 3, 128, 61, 132, 3, 1, 167, 255, 224, 28, 172]
abbrev dktX1_meetsIn_1 : List UInt8 := dkwX1_meetsIn_1 ++ []
def dkwX1_meetsIn_0 : List UInt8 := [3, 61, 3, 62, 29, 16, 8, 162, 0, 32, 28, 42, 42, 180, 0, 10, 27, 29, 182, 1, 183, 153, 0, 9]
abbrev dktX1_meetsIn_0 : List UInt8 := dkwX1_meetsIn_0 ++ dktX1_meetsIn_1
theorem dksX1_meetsIn_0 : cX1_meetsIn.data.toList.drop 0 = dktX1_meetsIn_0 := by decide +kernel
theorem dksX1_meetsIn_1 : cX1_meetsIn.data.toList.drop 24 = dktX1_meetsIn_1 := dk_seg dksX1_meetsIn_0 24 rfl rfl
theorem dX1_meetsIn_0 : decode cX1_meetsIn 0 = .ok (.iconst 0, 1) := dk_3 (dk_at dksX1_meetsIn_0 0 rfl rfl)
theorem dX1_meetsIn_1 : decode cX1_meetsIn 1 = .ok (.istore_n 2, 1) := dk_61 (dk_at dksX1_meetsIn_0 1 rfl rfl)
theorem dX1_meetsIn_2 : decode cX1_meetsIn 2 = .ok (.iconst 0, 1) := dk_3 (dk_at dksX1_meetsIn_0 2 rfl rfl)
theorem dX1_meetsIn_3 : decode cX1_meetsIn 3 = .ok (.istore_n 3, 1) := dk_62 (dk_at dksX1_meetsIn_0 3 rfl rfl)
theorem dX1_meetsIn_4 : decode cX1_meetsIn 4 = .ok (.iload_n 3, 1) := dk_29 (dk_at dksX1_meetsIn_0 4 rfl rfl)
theorem dX1_meetsIn_5 : decode cX1_meetsIn 5 = .ok (.bipush 8, 2) := dk_16 8 (dk_at dksX1_meetsIn_0 5 rfl rfl)
theorem dX1_meetsIn_7 : decode cX1_meetsIn 7 = .ok (.if_icmp .ge 32, 3) := dk_162 0 32 (dk_at dksX1_meetsIn_0 7 rfl rfl)
theorem dX1_meetsIn_10 : decode cX1_meetsIn 10 = .ok (.iload_n 2, 1) := dk_28 (dk_at dksX1_meetsIn_0 10 rfl rfl)
theorem dX1_meetsIn_11 : decode cX1_meetsIn 11 = .ok (.aload_n 0, 1) := dk_42 (dk_at dksX1_meetsIn_0 11 rfl rfl)
theorem dX1_meetsIn_12 : decode cX1_meetsIn 12 = .ok (.aload_n 0, 1) := dk_42 (dk_at dksX1_meetsIn_0 12 rfl rfl)
theorem dX1_meetsIn_13 : decode cX1_meetsIn 13 = .ok (.getfield 10, 3) := dk_180 0 10 (dk_at dksX1_meetsIn_0 13 rfl rfl)
theorem dX1_meetsIn_16 : decode cX1_meetsIn 16 = .ok (.iload_n 1, 1) := dk_27 (dk_at dksX1_meetsIn_0 16 rfl rfl)
theorem dX1_meetsIn_17 : decode cX1_meetsIn 17 = .ok (.iload_n 3, 1) := dk_29 (dk_at dksX1_meetsIn_0 17 rfl rfl)
theorem dX1_meetsIn_18 : decode cX1_meetsIn 18 = .ok (.invokevirtual 439, 3) := dk_182 1 183 (dk_at dksX1_meetsIn_0 18 rfl rfl)
theorem dX1_meetsIn_21 : decode cX1_meetsIn 21 = .ok (.ifCond .eq 9, 3) := dk_153 0 9 (dk_at dksX1_meetsIn_0 21 rfl rfl)
theorem dX1_meetsIn_24 : decode cX1_meetsIn 24 = .ok (.iconst 1, 1) := dk_4 (dk_at dksX1_meetsIn_1 0 rfl rfl)
theorem dX1_meetsIn_25 : decode cX1_meetsIn 25 = .ok (.iload_n 3, 1) := dk_29 (dk_at dksX1_meetsIn_1 1 rfl rfl)
theorem dX1_meetsIn_26 : decode cX1_meetsIn 26 = .ok (.ishl, 1) := dk_120 (dk_at dksX1_meetsIn_1 2 rfl rfl)
theorem dX1_meetsIn_27 : decode cX1_meetsIn 27 = .ok (.goto 4, 3) := dk_167 0 4 (dk_at dksX1_meetsIn_1 3 rfl rfl)
theorem dX1_meetsIn_30 : decode cX1_meetsIn 30 = .ok (.iconst 0, 1) := dk_3 (dk_at dksX1_meetsIn_1 6 rfl rfl)
theorem dX1_meetsIn_31 : decode cX1_meetsIn 31 = .ok (.ior, 1) := dk_128 (dk_at dksX1_meetsIn_1 7 rfl rfl)
theorem dX1_meetsIn_32 : decode cX1_meetsIn 32 = .ok (.istore_n 2, 1) := dk_61 (dk_at dksX1_meetsIn_1 8 rfl rfl)
theorem dX1_meetsIn_33 : decode cX1_meetsIn 33 = .ok (.iinc 3 1, 3) := dk_132 3 1 (dk_at dksX1_meetsIn_1 9 rfl rfl)
theorem dX1_meetsIn_36 : decode cX1_meetsIn 36 = .ok (.goto (-32), 3) := dk_167 255 224 (dk_at dksX1_meetsIn_1 12 rfl rfl)
theorem dX1_meetsIn_39 : decode cX1_meetsIn 39 = .ok (.iload_n 2, 1) := dk_28 (dk_at dksX1_meetsIn_1 15 rfl rfl)
theorem dX1_meetsIn_40 : decode cX1_meetsIn 40 = .ok (.ireturn, 1) := dk_172 (dk_at dksX1_meetsIn_1 16 rfl rfl)
abbrev cX1_dearest : ByteArray := prog_1_method_103_code
def yX1_dearest : MethodName := ⟨RX1, "dearest", "()I"⟩
def dkwX1_dearest_1 : List UInt8 := [182, 2, 7, 42, 27, 182, 2, 7, 164, 0, 5, 28, 60, 132, 2, 1, 167, 255, 222, 27, 172]
abbrev dktX1_dearest_1 : List UInt8 := dkwX1_dearest_1 ++ []
def dkwX1_dearest_0 : List UInt8 := [2, 60, 3, 61, 28, 42, 180, 0, 10, 180, 0, 168, 162, 0, 29, 27, 2, 159, 0, 16, 42, 28]
abbrev dktX1_dearest_0 : List UInt8 := dkwX1_dearest_0 ++ dktX1_dearest_1
theorem dksX1_dearest_0 : cX1_dearest.data.toList.drop 0 = dktX1_dearest_0 := by decide +kernel
theorem dksX1_dearest_1 : cX1_dearest.data.toList.drop 22 = dktX1_dearest_1 := dk_seg dksX1_dearest_0 22 rfl rfl
theorem dX1_dearest_0 : decode cX1_dearest 0 = .ok (.iconst (-1), 1) := dk_2 (dk_at dksX1_dearest_0 0 rfl rfl)
theorem dX1_dearest_1 : decode cX1_dearest 1 = .ok (.istore_n 1, 1) := dk_60 (dk_at dksX1_dearest_0 1 rfl rfl)
theorem dX1_dearest_2 : decode cX1_dearest 2 = .ok (.iconst 0, 1) := dk_3 (dk_at dksX1_dearest_0 2 rfl rfl)
theorem dX1_dearest_3 : decode cX1_dearest 3 = .ok (.istore_n 2, 1) := dk_61 (dk_at dksX1_dearest_0 3 rfl rfl)
theorem dX1_dearest_4 : decode cX1_dearest 4 = .ok (.iload_n 2, 1) := dk_28 (dk_at dksX1_dearest_0 4 rfl rfl)
theorem dX1_dearest_5 : decode cX1_dearest 5 = .ok (.aload_n 0, 1) := dk_42 (dk_at dksX1_dearest_0 5 rfl rfl)
theorem dX1_dearest_6 : decode cX1_dearest 6 = .ok (.getfield 10, 3) := dk_180 0 10 (dk_at dksX1_dearest_0 6 rfl rfl)
theorem dX1_dearest_9 : decode cX1_dearest 9 = .ok (.getfield 168, 3) := dk_180 0 168 (dk_at dksX1_dearest_0 9 rfl rfl)
theorem dX1_dearest_12 : decode cX1_dearest 12 = .ok (.if_icmp .ge 29, 3) := dk_162 0 29 (dk_at dksX1_dearest_0 12 rfl rfl)
theorem dX1_dearest_15 : decode cX1_dearest 15 = .ok (.iload_n 1, 1) := dk_27 (dk_at dksX1_dearest_0 15 rfl rfl)
theorem dX1_dearest_16 : decode cX1_dearest 16 = .ok (.iconst (-1), 1) := dk_2 (dk_at dksX1_dearest_0 16 rfl rfl)
theorem dX1_dearest_17 : decode cX1_dearest 17 = .ok (.if_icmp .eq 16, 3) := dk_159 0 16 (dk_at dksX1_dearest_0 17 rfl rfl)
theorem dX1_dearest_20 : decode cX1_dearest 20 = .ok (.aload_n 0, 1) := dk_42 (dk_at dksX1_dearest_0 20 rfl rfl)
theorem dX1_dearest_21 : decode cX1_dearest 21 = .ok (.iload_n 2, 1) := dk_28 (dk_at dksX1_dearest_0 21 rfl rfl)
theorem dX1_dearest_22 : decode cX1_dearest 22 = .ok (.invokevirtual 519, 3) := dk_182 2 7 (dk_at dksX1_dearest_1 0 rfl rfl)
theorem dX1_dearest_25 : decode cX1_dearest 25 = .ok (.aload_n 0, 1) := dk_42 (dk_at dksX1_dearest_1 3 rfl rfl)
theorem dX1_dearest_26 : decode cX1_dearest 26 = .ok (.iload_n 1, 1) := dk_27 (dk_at dksX1_dearest_1 4 rfl rfl)
theorem dX1_dearest_27 : decode cX1_dearest 27 = .ok (.invokevirtual 519, 3) := dk_182 2 7 (dk_at dksX1_dearest_1 5 rfl rfl)
theorem dX1_dearest_30 : decode cX1_dearest 30 = .ok (.if_icmp .le 5, 3) := dk_164 0 5 (dk_at dksX1_dearest_1 8 rfl rfl)
theorem dX1_dearest_33 : decode cX1_dearest 33 = .ok (.iload_n 2, 1) := dk_28 (dk_at dksX1_dearest_1 11 rfl rfl)
theorem dX1_dearest_34 : decode cX1_dearest 34 = .ok (.istore_n 1, 1) := dk_60 (dk_at dksX1_dearest_1 12 rfl rfl)
theorem dX1_dearest_35 : decode cX1_dearest 35 = .ok (.iinc 2 1, 3) := dk_132 2 1 (dk_at dksX1_dearest_1 13 rfl rfl)
theorem dX1_dearest_38 : decode cX1_dearest 38 = .ok (.goto (-34), 3) := dk_167 255 222 (dk_at dksX1_dearest_1 16 rfl rfl)
theorem dX1_dearest_41 : decode cX1_dearest 41 = .ok (.iload_n 1, 1) := dk_27 (dk_at dksX1_dearest_1 19 rfl rfl)
theorem dX1_dearest_42 : decode cX1_dearest 42 = .ok (.ireturn, 1) := dk_172 (dk_at dksX1_dearest_1 20 rfl rfl)
abbrev cX1_likedBy : ByteArray := prog_1_method_46_code
def yX1_likedBy : MethodName := ⟨RX1, "likedBy", "(I)I"⟩
def dkwX1_likedBy_1 : List UInt8 := [50, 27, 46, 96, 61, 132, 3, 1, 167, 255, 228, 28, 172]
abbrev dktX1_likedBy_1 : List UInt8 := dkwX1_likedBy_1 ++ []
def dkwX1_likedBy_0 : List UInt8 := [3, 61, 3, 62, 29, 42, 180, 0, 10, 180, 0, 132, 162, 0, 23, 28, 42, 180, 0, 10, 180, 0, 155, 29]
abbrev dktX1_likedBy_0 : List UInt8 := dkwX1_likedBy_0 ++ dktX1_likedBy_1
theorem dksX1_likedBy_0 : cX1_likedBy.data.toList.drop 0 = dktX1_likedBy_0 := by decide +kernel
theorem dksX1_likedBy_1 : cX1_likedBy.data.toList.drop 24 = dktX1_likedBy_1 := dk_seg dksX1_likedBy_0 24 rfl rfl
theorem dX1_likedBy_0 : decode cX1_likedBy 0 = .ok (.iconst 0, 1) := dk_3 (dk_at dksX1_likedBy_0 0 rfl rfl)
theorem dX1_likedBy_1 : decode cX1_likedBy 1 = .ok (.istore_n 2, 1) := dk_61 (dk_at dksX1_likedBy_0 1 rfl rfl)
theorem dX1_likedBy_2 : decode cX1_likedBy 2 = .ok (.iconst 0, 1) := dk_3 (dk_at dksX1_likedBy_0 2 rfl rfl)
theorem dX1_likedBy_3 : decode cX1_likedBy 3 = .ok (.istore_n 3, 1) := dk_62 (dk_at dksX1_likedBy_0 3 rfl rfl)
theorem dX1_likedBy_4 : decode cX1_likedBy 4 = .ok (.iload_n 3, 1) := dk_29 (dk_at dksX1_likedBy_0 4 rfl rfl)
theorem dX1_likedBy_5 : decode cX1_likedBy 5 = .ok (.aload_n 0, 1) := dk_42 (dk_at dksX1_likedBy_0 5 rfl rfl)
theorem dX1_likedBy_6 : decode cX1_likedBy 6 = .ok (.getfield 10, 3) := dk_180 0 10 (dk_at dksX1_likedBy_0 6 rfl rfl)
theorem dX1_likedBy_9 : decode cX1_likedBy 9 = .ok (.getfield 132, 3) := dk_180 0 132 (dk_at dksX1_likedBy_0 9 rfl rfl)
theorem dX1_likedBy_12 : decode cX1_likedBy 12 = .ok (.if_icmp .ge 23, 3) := dk_162 0 23 (dk_at dksX1_likedBy_0 12 rfl rfl)
theorem dX1_likedBy_15 : decode cX1_likedBy 15 = .ok (.iload_n 2, 1) := dk_28 (dk_at dksX1_likedBy_0 15 rfl rfl)
theorem dX1_likedBy_16 : decode cX1_likedBy 16 = .ok (.aload_n 0, 1) := dk_42 (dk_at dksX1_likedBy_0 16 rfl rfl)
theorem dX1_likedBy_17 : decode cX1_likedBy 17 = .ok (.getfield 10, 3) := dk_180 0 10 (dk_at dksX1_likedBy_0 17 rfl rfl)
theorem dX1_likedBy_20 : decode cX1_likedBy 20 = .ok (.getfield 155, 3) := dk_180 0 155 (dk_at dksX1_likedBy_0 20 rfl rfl)
theorem dX1_likedBy_23 : decode cX1_likedBy 23 = .ok (.iload_n 3, 1) := dk_29 (dk_at dksX1_likedBy_0 23 rfl rfl)
theorem dX1_likedBy_24 : decode cX1_likedBy 24 = .ok (.aaload, 1) := dk_50 (dk_at dksX1_likedBy_1 0 rfl rfl)
theorem dX1_likedBy_25 : decode cX1_likedBy 25 = .ok (.iload_n 1, 1) := dk_27 (dk_at dksX1_likedBy_1 1 rfl rfl)
theorem dX1_likedBy_26 : decode cX1_likedBy 26 = .ok (.iaload, 1) := dk_46 (dk_at dksX1_likedBy_1 2 rfl rfl)
theorem dX1_likedBy_27 : decode cX1_likedBy 27 = .ok (.iadd, 1) := dk_96 (dk_at dksX1_likedBy_1 3 rfl rfl)
theorem dX1_likedBy_28 : decode cX1_likedBy 28 = .ok (.istore_n 2, 1) := dk_61 (dk_at dksX1_likedBy_1 4 rfl rfl)
theorem dX1_likedBy_29 : decode cX1_likedBy 29 = .ok (.iinc 3 1, 3) := dk_132 3 1 (dk_at dksX1_likedBy_1 5 rfl rfl)
theorem dX1_likedBy_32 : decode cX1_likedBy 32 = .ok (.goto (-28), 3) := dk_167 255 228 (dk_at dksX1_likedBy_1 8 rfl rfl)
theorem dX1_likedBy_35 : decode cX1_likedBy 35 = .ok (.iload_n 2, 1) := dk_28 (dk_at dksX1_likedBy_1 11 rfl rfl)
theorem dX1_likedBy_36 : decode cX1_likedBy 36 = .ok (.ireturn, 1) := dk_172 (dk_at dksX1_likedBy_1 12 rfl rfl)
abbrev cX1_forlorn : ByteArray := prog_1_method_105_code
def yX1_forlorn : MethodName := ⟨RX1, "forlorn", "()I"⟩
def dkwX1_forlorn_2 : List UInt8 := [167, 255, 214, 27, 172]
abbrev dktX1_forlorn_2 : List UInt8 := dkwX1_forlorn_2 ++ []
def dkwX1_forlorn_1 : List UInt8 := [158, 0, 27, 27, 42, 28, 182, 2, 142, 153, 0, 9, 4, 28, 120, 167, 0, 4, 3, 128, 60, 132, 2, 1]
abbrev dktX1_forlorn_1 : List UInt8 := dkwX1_forlorn_1 ++ dktX1_forlorn_2
def dkwX1_forlorn_0 : List UInt8 := [3, 60, 3, 61, 28, 42, 180, 0, 10, 180, 0, 132, 162, 0, 37, 42, 180, 0, 10, 180, 0, 168]
abbrev dktX1_forlorn_0 : List UInt8 := dkwX1_forlorn_0 ++ dktX1_forlorn_1
theorem dksX1_forlorn_0 : cX1_forlorn.data.toList.drop 0 = dktX1_forlorn_0 := by decide +kernel
theorem dksX1_forlorn_1 : cX1_forlorn.data.toList.drop 22 = dktX1_forlorn_1 := dk_seg dksX1_forlorn_0 22 rfl rfl
theorem dksX1_forlorn_2 : cX1_forlorn.data.toList.drop 46 = dktX1_forlorn_2 := dk_seg dksX1_forlorn_1 24 rfl rfl
theorem dX1_forlorn_0 : decode cX1_forlorn 0 = .ok (.iconst 0, 1) := dk_3 (dk_at dksX1_forlorn_0 0 rfl rfl)
theorem dX1_forlorn_1 : decode cX1_forlorn 1 = .ok (.istore_n 1, 1) := dk_60 (dk_at dksX1_forlorn_0 1 rfl rfl)
theorem dX1_forlorn_2 : decode cX1_forlorn 2 = .ok (.iconst 0, 1) := dk_3 (dk_at dksX1_forlorn_0 2 rfl rfl)
theorem dX1_forlorn_3 : decode cX1_forlorn 3 = .ok (.istore_n 2, 1) := dk_61 (dk_at dksX1_forlorn_0 3 rfl rfl)
theorem dX1_forlorn_4 : decode cX1_forlorn 4 = .ok (.iload_n 2, 1) := dk_28 (dk_at dksX1_forlorn_0 4 rfl rfl)
theorem dX1_forlorn_5 : decode cX1_forlorn 5 = .ok (.aload_n 0, 1) := dk_42 (dk_at dksX1_forlorn_0 5 rfl rfl)
theorem dX1_forlorn_6 : decode cX1_forlorn 6 = .ok (.getfield 10, 3) := dk_180 0 10 (dk_at dksX1_forlorn_0 6 rfl rfl)
theorem dX1_forlorn_9 : decode cX1_forlorn 9 = .ok (.getfield 132, 3) := dk_180 0 132 (dk_at dksX1_forlorn_0 9 rfl rfl)
theorem dX1_forlorn_12 : decode cX1_forlorn 12 = .ok (.if_icmp .ge 37, 3) := dk_162 0 37 (dk_at dksX1_forlorn_0 12 rfl rfl)
theorem dX1_forlorn_15 : decode cX1_forlorn 15 = .ok (.aload_n 0, 1) := dk_42 (dk_at dksX1_forlorn_0 15 rfl rfl)
theorem dX1_forlorn_16 : decode cX1_forlorn 16 = .ok (.getfield 10, 3) := dk_180 0 10 (dk_at dksX1_forlorn_0 16 rfl rfl)
theorem dX1_forlorn_19 : decode cX1_forlorn 19 = .ok (.getfield 168, 3) := dk_180 0 168 (dk_at dksX1_forlorn_0 19 rfl rfl)
theorem dX1_forlorn_22 : decode cX1_forlorn 22 = .ok (.ifCond .le 27, 3) := dk_158 0 27 (dk_at dksX1_forlorn_1 0 rfl rfl)
theorem dX1_forlorn_25 : decode cX1_forlorn 25 = .ok (.iload_n 1, 1) := dk_27 (dk_at dksX1_forlorn_1 3 rfl rfl)
theorem dX1_forlorn_26 : decode cX1_forlorn 26 = .ok (.aload_n 0, 1) := dk_42 (dk_at dksX1_forlorn_1 4 rfl rfl)
theorem dX1_forlorn_27 : decode cX1_forlorn 27 = .ok (.iload_n 2, 1) := dk_28 (dk_at dksX1_forlorn_1 5 rfl rfl)
theorem dX1_forlorn_28 : decode cX1_forlorn 28 = .ok (.invokevirtual 654, 3) := dk_182 2 142 (dk_at dksX1_forlorn_1 6 rfl rfl)
theorem dX1_forlorn_31 : decode cX1_forlorn 31 = .ok (.ifCond .eq 9, 3) := dk_153 0 9 (dk_at dksX1_forlorn_1 9 rfl rfl)
theorem dX1_forlorn_34 : decode cX1_forlorn 34 = .ok (.iconst 1, 1) := dk_4 (dk_at dksX1_forlorn_1 12 rfl rfl)
theorem dX1_forlorn_35 : decode cX1_forlorn 35 = .ok (.iload_n 2, 1) := dk_28 (dk_at dksX1_forlorn_1 13 rfl rfl)
theorem dX1_forlorn_36 : decode cX1_forlorn 36 = .ok (.ishl, 1) := dk_120 (dk_at dksX1_forlorn_1 14 rfl rfl)
theorem dX1_forlorn_37 : decode cX1_forlorn 37 = .ok (.goto 4, 3) := dk_167 0 4 (dk_at dksX1_forlorn_1 15 rfl rfl)
theorem dX1_forlorn_40 : decode cX1_forlorn 40 = .ok (.iconst 0, 1) := dk_3 (dk_at dksX1_forlorn_1 18 rfl rfl)
theorem dX1_forlorn_41 : decode cX1_forlorn 41 = .ok (.ior, 1) := dk_128 (dk_at dksX1_forlorn_1 19 rfl rfl)
theorem dX1_forlorn_42 : decode cX1_forlorn 42 = .ok (.istore_n 1, 1) := dk_60 (dk_at dksX1_forlorn_1 20 rfl rfl)
theorem dX1_forlorn_43 : decode cX1_forlorn 43 = .ok (.iinc 2 1, 3) := dk_132 2 1 (dk_at dksX1_forlorn_1 21 rfl rfl)
theorem dX1_forlorn_46 : decode cX1_forlorn 46 = .ok (.goto (-42), 3) := dk_167 255 214 (dk_at dksX1_forlorn_2 0 rfl rfl)
theorem dX1_forlorn_49 : decode cX1_forlorn 49 = .ok (.iload_n 1, 1) := dk_27 (dk_at dksX1_forlorn_2 3 rfl rfl)
theorem dX1_forlorn_50 : decode cX1_forlorn 50 = .ok (.ireturn, 1) := dk_172 (dk_at dksX1_forlorn_2 4 rfl rfl)
abbrev cX1_isForlorn : ByteArray := prog_1_method_104_code
def yX1_isForlorn : MethodName := ⟨RX1, "isForlorn", "(I)Z"⟩
def dkwX1_isForlorn_2 : List UInt8 := [167, 255, 213, 4, 172]
abbrev dktX1_isForlorn_2 : List UInt8 := dkwX1_isForlorn_2 ++ []
def dkwX1_isForlorn_1 : List UInt8 := [180, 0, 10, 27, 28, 29, 182, 1, 176, 153, 0, 5, 3, 172, 132, 3, 1, 167, 255, 232, 132, 2, 1]
abbrev dktX1_isForlorn_1 : List UInt8 := dkwX1_isForlorn_1 ++ dktX1_isForlorn_2
def dkwX1_isForlorn_0 : List UInt8 := [3, 61, 28, 42, 180, 0, 10, 180, 0, 168, 162, 0, 38, 3, 62, 29, 16, 8, 162, 0, 24, 42]
abbrev dktX1_isForlorn_0 : List UInt8 := dkwX1_isForlorn_0 ++ dktX1_isForlorn_1
theorem dksX1_isForlorn_0 : cX1_isForlorn.data.toList.drop 0 = dktX1_isForlorn_0 := by decide +kernel
theorem dksX1_isForlorn_1 : cX1_isForlorn.data.toList.drop 22 = dktX1_isForlorn_1 := dk_seg dksX1_isForlorn_0 22 rfl rfl
theorem dksX1_isForlorn_2 : cX1_isForlorn.data.toList.drop 45 = dktX1_isForlorn_2 := dk_seg dksX1_isForlorn_1 23 rfl rfl
theorem dX1_isForlorn_0 : decode cX1_isForlorn 0 = .ok (.iconst 0, 1) := dk_3 (dk_at dksX1_isForlorn_0 0 rfl rfl)
theorem dX1_isForlorn_1 : decode cX1_isForlorn 1 = .ok (.istore_n 2, 1) := dk_61 (dk_at dksX1_isForlorn_0 1 rfl rfl)
theorem dX1_isForlorn_2 : decode cX1_isForlorn 2 = .ok (.iload_n 2, 1) := dk_28 (dk_at dksX1_isForlorn_0 2 rfl rfl)
theorem dX1_isForlorn_3 : decode cX1_isForlorn 3 = .ok (.aload_n 0, 1) := dk_42 (dk_at dksX1_isForlorn_0 3 rfl rfl)
theorem dX1_isForlorn_4 : decode cX1_isForlorn 4 = .ok (.getfield 10, 3) := dk_180 0 10 (dk_at dksX1_isForlorn_0 4 rfl rfl)
theorem dX1_isForlorn_7 : decode cX1_isForlorn 7 = .ok (.getfield 168, 3) := dk_180 0 168 (dk_at dksX1_isForlorn_0 7 rfl rfl)
theorem dX1_isForlorn_10 : decode cX1_isForlorn 10 = .ok (.if_icmp .ge 38, 3) := dk_162 0 38 (dk_at dksX1_isForlorn_0 10 rfl rfl)
theorem dX1_isForlorn_13 : decode cX1_isForlorn 13 = .ok (.iconst 0, 1) := dk_3 (dk_at dksX1_isForlorn_0 13 rfl rfl)
theorem dX1_isForlorn_14 : decode cX1_isForlorn 14 = .ok (.istore_n 3, 1) := dk_62 (dk_at dksX1_isForlorn_0 14 rfl rfl)
theorem dX1_isForlorn_15 : decode cX1_isForlorn 15 = .ok (.iload_n 3, 1) := dk_29 (dk_at dksX1_isForlorn_0 15 rfl rfl)
theorem dX1_isForlorn_16 : decode cX1_isForlorn 16 = .ok (.bipush 8, 2) := dk_16 8 (dk_at dksX1_isForlorn_0 16 rfl rfl)
theorem dX1_isForlorn_18 : decode cX1_isForlorn 18 = .ok (.if_icmp .ge 24, 3) := dk_162 0 24 (dk_at dksX1_isForlorn_0 18 rfl rfl)
theorem dX1_isForlorn_21 : decode cX1_isForlorn 21 = .ok (.aload_n 0, 1) := dk_42 (dk_at dksX1_isForlorn_0 21 rfl rfl)
theorem dX1_isForlorn_22 : decode cX1_isForlorn 22 = .ok (.getfield 10, 3) := dk_180 0 10 (dk_at dksX1_isForlorn_1 0 rfl rfl)
theorem dX1_isForlorn_25 : decode cX1_isForlorn 25 = .ok (.iload_n 1, 1) := dk_27 (dk_at dksX1_isForlorn_1 3 rfl rfl)
theorem dX1_isForlorn_26 : decode cX1_isForlorn 26 = .ok (.iload_n 2, 1) := dk_28 (dk_at dksX1_isForlorn_1 4 rfl rfl)
theorem dX1_isForlorn_27 : decode cX1_isForlorn 27 = .ok (.iload_n 3, 1) := dk_29 (dk_at dksX1_isForlorn_1 5 rfl rfl)
theorem dX1_isForlorn_28 : decode cX1_isForlorn 28 = .ok (.invokevirtual 432, 3) := dk_182 1 176 (dk_at dksX1_isForlorn_1 6 rfl rfl)
theorem dX1_isForlorn_31 : decode cX1_isForlorn 31 = .ok (.ifCond .eq 5, 3) := dk_153 0 5 (dk_at dksX1_isForlorn_1 9 rfl rfl)
theorem dX1_isForlorn_34 : decode cX1_isForlorn 34 = .ok (.iconst 0, 1) := dk_3 (dk_at dksX1_isForlorn_1 12 rfl rfl)
theorem dX1_isForlorn_35 : decode cX1_isForlorn 35 = .ok (.ireturn, 1) := dk_172 (dk_at dksX1_isForlorn_1 13 rfl rfl)
theorem dX1_isForlorn_36 : decode cX1_isForlorn 36 = .ok (.iinc 3 1, 3) := dk_132 3 1 (dk_at dksX1_isForlorn_1 14 rfl rfl)
theorem dX1_isForlorn_39 : decode cX1_isForlorn 39 = .ok (.goto (-24), 3) := dk_167 255 232 (dk_at dksX1_isForlorn_1 17 rfl rfl)
theorem dX1_isForlorn_42 : decode cX1_isForlorn 42 = .ok (.iinc 2 1, 3) := dk_132 2 1 (dk_at dksX1_isForlorn_1 20 rfl rfl)
theorem dX1_isForlorn_45 : decode cX1_isForlorn 45 = .ok (.goto (-43), 3) := dk_167 255 213 (dk_at dksX1_isForlorn_2 0 rfl rfl)
theorem dX1_isForlorn_48 : decode cX1_isForlorn 48 = .ok (.iconst 1, 1) := dk_4 (dk_at dksX1_isForlorn_2 3 rfl rfl)
theorem dX1_isForlorn_49 : decode cX1_isForlorn 49 = .ok (.ireturn, 1) := dk_172 (dk_at dksX1_isForlorn_2 4 rfl rfl)
abbrev cX1_alike : ByteArray := prog_1_method_107_code
def yX1_alike : MethodName := ⟨RX1, "alike", "()I"⟩
def dkwX1_alike_2 : List UInt8 := [132, 3, 1, 167, 255, 225, 132, 2, 1, 167, 255, 204, 27, 172]
abbrev dktX1_alike_2 : List UInt8 := dkwX1_alike_2 ++ []
def dkwX1_alike_1 : List UInt8 := [180, 0, 132, 162, 0, 26, 27, 42, 28, 29, 182, 2, 145, 153, 0, 7, 4, 167, 0, 4, 3, 96, 60]
abbrev dktX1_alike_1 : List UInt8 := dkwX1_alike_1 ++ dktX1_alike_2
def dkwX1_alike_0 : List UInt8 := [3, 60, 3, 61, 28, 42, 180, 0, 10, 180, 0, 132, 162, 0, 47, 28, 4, 96, 62, 29, 42, 180, 0, 10]
abbrev dktX1_alike_0 : List UInt8 := dkwX1_alike_0 ++ dktX1_alike_1
theorem dksX1_alike_0 : cX1_alike.data.toList.drop 0 = dktX1_alike_0 := by decide +kernel
theorem dksX1_alike_1 : cX1_alike.data.toList.drop 24 = dktX1_alike_1 := dk_seg dksX1_alike_0 24 rfl rfl
theorem dksX1_alike_2 : cX1_alike.data.toList.drop 47 = dktX1_alike_2 := dk_seg dksX1_alike_1 23 rfl rfl
theorem dX1_alike_0 : decode cX1_alike 0 = .ok (.iconst 0, 1) := dk_3 (dk_at dksX1_alike_0 0 rfl rfl)
theorem dX1_alike_1 : decode cX1_alike 1 = .ok (.istore_n 1, 1) := dk_60 (dk_at dksX1_alike_0 1 rfl rfl)
theorem dX1_alike_2 : decode cX1_alike 2 = .ok (.iconst 0, 1) := dk_3 (dk_at dksX1_alike_0 2 rfl rfl)
theorem dX1_alike_3 : decode cX1_alike 3 = .ok (.istore_n 2, 1) := dk_61 (dk_at dksX1_alike_0 3 rfl rfl)
theorem dX1_alike_4 : decode cX1_alike 4 = .ok (.iload_n 2, 1) := dk_28 (dk_at dksX1_alike_0 4 rfl rfl)
theorem dX1_alike_5 : decode cX1_alike 5 = .ok (.aload_n 0, 1) := dk_42 (dk_at dksX1_alike_0 5 rfl rfl)
theorem dX1_alike_6 : decode cX1_alike 6 = .ok (.getfield 10, 3) := dk_180 0 10 (dk_at dksX1_alike_0 6 rfl rfl)
theorem dX1_alike_9 : decode cX1_alike 9 = .ok (.getfield 132, 3) := dk_180 0 132 (dk_at dksX1_alike_0 9 rfl rfl)
theorem dX1_alike_12 : decode cX1_alike 12 = .ok (.if_icmp .ge 47, 3) := dk_162 0 47 (dk_at dksX1_alike_0 12 rfl rfl)
theorem dX1_alike_15 : decode cX1_alike 15 = .ok (.iload_n 2, 1) := dk_28 (dk_at dksX1_alike_0 15 rfl rfl)
theorem dX1_alike_16 : decode cX1_alike 16 = .ok (.iconst 1, 1) := dk_4 (dk_at dksX1_alike_0 16 rfl rfl)
theorem dX1_alike_17 : decode cX1_alike 17 = .ok (.iadd, 1) := dk_96 (dk_at dksX1_alike_0 17 rfl rfl)
theorem dX1_alike_18 : decode cX1_alike 18 = .ok (.istore_n 3, 1) := dk_62 (dk_at dksX1_alike_0 18 rfl rfl)
theorem dX1_alike_19 : decode cX1_alike 19 = .ok (.iload_n 3, 1) := dk_29 (dk_at dksX1_alike_0 19 rfl rfl)
theorem dX1_alike_20 : decode cX1_alike 20 = .ok (.aload_n 0, 1) := dk_42 (dk_at dksX1_alike_0 20 rfl rfl)
theorem dX1_alike_21 : decode cX1_alike 21 = .ok (.getfield 10, 3) := dk_180 0 10 (dk_at dksX1_alike_0 21 rfl rfl)
theorem dX1_alike_24 : decode cX1_alike 24 = .ok (.getfield 132, 3) := dk_180 0 132 (dk_at dksX1_alike_1 0 rfl rfl)
theorem dX1_alike_27 : decode cX1_alike 27 = .ok (.if_icmp .ge 26, 3) := dk_162 0 26 (dk_at dksX1_alike_1 3 rfl rfl)
theorem dX1_alike_30 : decode cX1_alike 30 = .ok (.iload_n 1, 1) := dk_27 (dk_at dksX1_alike_1 6 rfl rfl)
theorem dX1_alike_31 : decode cX1_alike 31 = .ok (.aload_n 0, 1) := dk_42 (dk_at dksX1_alike_1 7 rfl rfl)
theorem dX1_alike_32 : decode cX1_alike 32 = .ok (.iload_n 2, 1) := dk_28 (dk_at dksX1_alike_1 8 rfl rfl)
theorem dX1_alike_33 : decode cX1_alike 33 = .ok (.iload_n 3, 1) := dk_29 (dk_at dksX1_alike_1 9 rfl rfl)
theorem dX1_alike_34 : decode cX1_alike 34 = .ok (.invokevirtual 657, 3) := dk_182 2 145 (dk_at dksX1_alike_1 10 rfl rfl)
theorem dX1_alike_37 : decode cX1_alike 37 = .ok (.ifCond .eq 7, 3) := dk_153 0 7 (dk_at dksX1_alike_1 13 rfl rfl)
theorem dX1_alike_40 : decode cX1_alike 40 = .ok (.iconst 1, 1) := dk_4 (dk_at dksX1_alike_1 16 rfl rfl)
theorem dX1_alike_41 : decode cX1_alike 41 = .ok (.goto 4, 3) := dk_167 0 4 (dk_at dksX1_alike_1 17 rfl rfl)
theorem dX1_alike_44 : decode cX1_alike 44 = .ok (.iconst 0, 1) := dk_3 (dk_at dksX1_alike_1 20 rfl rfl)
theorem dX1_alike_45 : decode cX1_alike 45 = .ok (.iadd, 1) := dk_96 (dk_at dksX1_alike_1 21 rfl rfl)
theorem dX1_alike_46 : decode cX1_alike 46 = .ok (.istore_n 1, 1) := dk_60 (dk_at dksX1_alike_1 22 rfl rfl)
theorem dX1_alike_47 : decode cX1_alike 47 = .ok (.iinc 3 1, 3) := dk_132 3 1 (dk_at dksX1_alike_2 0 rfl rfl)
theorem dX1_alike_50 : decode cX1_alike 50 = .ok (.goto (-31), 3) := dk_167 255 225 (dk_at dksX1_alike_2 3 rfl rfl)
theorem dX1_alike_53 : decode cX1_alike 53 = .ok (.iinc 2 1, 3) := dk_132 2 1 (dk_at dksX1_alike_2 6 rfl rfl)
theorem dX1_alike_56 : decode cX1_alike 56 = .ok (.goto (-52), 3) := dk_167 255 204 (dk_at dksX1_alike_2 9 rfl rfl)
theorem dX1_alike_59 : decode cX1_alike 59 = .ok (.iload_n 1, 1) := dk_27 (dk_at dksX1_alike_2 12 rfl rfl)
theorem dX1_alike_60 : decode cX1_alike 60 = .ok (.ireturn, 1) := dk_172 (dk_at dksX1_alike_2 13 rfl rfl)
abbrev cX1_likens : ByteArray := prog_1_method_106_code
def yX1_likens : MethodName := ⟨RX1, "likens", "(II)Z"⟩
def dkwX1_likens_2 : List UInt8 := [180, 0, 10, 180, 0, 155, 28, 50, 29, 46, 159, 0, 5, 3, 172, 132, 3, 1, 167, 255, 215, 4, 172]
abbrev dktX1_likens_2 : List UInt8 := dkwX1_likens_2 ++ []
def dkwX1_likens_1 : List UInt8 := [62, 29, 42, 180, 0, 10, 180, 0, 168, 162, 0, 36, 42, 180, 0, 10, 180, 0, 155, 27, 50, 29, 46, 42]
abbrev dktX1_likens_1 : List UInt8 := dkwX1_likens_1 ++ dktX1_likens_2
def dkwX1_likens_0 : List UInt8 := [42, 180, 0, 10, 180, 0, 139, 27, 46, 42, 180, 0, 10, 180, 0, 139, 28, 46, 159, 0, 5, 3, 172, 3]
abbrev dktX1_likens_0 : List UInt8 := dkwX1_likens_0 ++ dktX1_likens_1
theorem dksX1_likens_0 : cX1_likens.data.toList.drop 0 = dktX1_likens_0 := by decide +kernel
theorem dksX1_likens_1 : cX1_likens.data.toList.drop 24 = dktX1_likens_1 := dk_seg dksX1_likens_0 24 rfl rfl
theorem dksX1_likens_2 : cX1_likens.data.toList.drop 48 = dktX1_likens_2 := dk_seg dksX1_likens_1 24 rfl rfl
theorem dX1_likens_0 : decode cX1_likens 0 = .ok (.aload_n 0, 1) := dk_42 (dk_at dksX1_likens_0 0 rfl rfl)
theorem dX1_likens_1 : decode cX1_likens 1 = .ok (.getfield 10, 3) := dk_180 0 10 (dk_at dksX1_likens_0 1 rfl rfl)
theorem dX1_likens_4 : decode cX1_likens 4 = .ok (.getfield 139, 3) := dk_180 0 139 (dk_at dksX1_likens_0 4 rfl rfl)
theorem dX1_likens_7 : decode cX1_likens 7 = .ok (.iload_n 1, 1) := dk_27 (dk_at dksX1_likens_0 7 rfl rfl)
theorem dX1_likens_8 : decode cX1_likens 8 = .ok (.iaload, 1) := dk_46 (dk_at dksX1_likens_0 8 rfl rfl)
theorem dX1_likens_9 : decode cX1_likens 9 = .ok (.aload_n 0, 1) := dk_42 (dk_at dksX1_likens_0 9 rfl rfl)
theorem dX1_likens_10 : decode cX1_likens 10 = .ok (.getfield 10, 3) := dk_180 0 10 (dk_at dksX1_likens_0 10 rfl rfl)
theorem dX1_likens_13 : decode cX1_likens 13 = .ok (.getfield 139, 3) := dk_180 0 139 (dk_at dksX1_likens_0 13 rfl rfl)
theorem dX1_likens_16 : decode cX1_likens 16 = .ok (.iload_n 2, 1) := dk_28 (dk_at dksX1_likens_0 16 rfl rfl)
theorem dX1_likens_17 : decode cX1_likens 17 = .ok (.iaload, 1) := dk_46 (dk_at dksX1_likens_0 17 rfl rfl)
theorem dX1_likens_18 : decode cX1_likens 18 = .ok (.if_icmp .eq 5, 3) := dk_159 0 5 (dk_at dksX1_likens_0 18 rfl rfl)
theorem dX1_likens_21 : decode cX1_likens 21 = .ok (.iconst 0, 1) := dk_3 (dk_at dksX1_likens_0 21 rfl rfl)
theorem dX1_likens_22 : decode cX1_likens 22 = .ok (.ireturn, 1) := dk_172 (dk_at dksX1_likens_0 22 rfl rfl)
theorem dX1_likens_23 : decode cX1_likens 23 = .ok (.iconst 0, 1) := dk_3 (dk_at dksX1_likens_0 23 rfl rfl)
theorem dX1_likens_24 : decode cX1_likens 24 = .ok (.istore_n 3, 1) := dk_62 (dk_at dksX1_likens_1 0 rfl rfl)
theorem dX1_likens_25 : decode cX1_likens 25 = .ok (.iload_n 3, 1) := dk_29 (dk_at dksX1_likens_1 1 rfl rfl)
theorem dX1_likens_26 : decode cX1_likens 26 = .ok (.aload_n 0, 1) := dk_42 (dk_at dksX1_likens_1 2 rfl rfl)
theorem dX1_likens_27 : decode cX1_likens 27 = .ok (.getfield 10, 3) := dk_180 0 10 (dk_at dksX1_likens_1 3 rfl rfl)
theorem dX1_likens_30 : decode cX1_likens 30 = .ok (.getfield 168, 3) := dk_180 0 168 (dk_at dksX1_likens_1 6 rfl rfl)
theorem dX1_likens_33 : decode cX1_likens 33 = .ok (.if_icmp .ge 36, 3) := dk_162 0 36 (dk_at dksX1_likens_1 9 rfl rfl)
theorem dX1_likens_36 : decode cX1_likens 36 = .ok (.aload_n 0, 1) := dk_42 (dk_at dksX1_likens_1 12 rfl rfl)
theorem dX1_likens_37 : decode cX1_likens 37 = .ok (.getfield 10, 3) := dk_180 0 10 (dk_at dksX1_likens_1 13 rfl rfl)
theorem dX1_likens_40 : decode cX1_likens 40 = .ok (.getfield 155, 3) := dk_180 0 155 (dk_at dksX1_likens_1 16 rfl rfl)
theorem dX1_likens_43 : decode cX1_likens 43 = .ok (.iload_n 1, 1) := dk_27 (dk_at dksX1_likens_1 19 rfl rfl)
theorem dX1_likens_44 : decode cX1_likens 44 = .ok (.aaload, 1) := dk_50 (dk_at dksX1_likens_1 20 rfl rfl)
theorem dX1_likens_45 : decode cX1_likens 45 = .ok (.iload_n 3, 1) := dk_29 (dk_at dksX1_likens_1 21 rfl rfl)
theorem dX1_likens_46 : decode cX1_likens 46 = .ok (.iaload, 1) := dk_46 (dk_at dksX1_likens_1 22 rfl rfl)
theorem dX1_likens_47 : decode cX1_likens 47 = .ok (.aload_n 0, 1) := dk_42 (dk_at dksX1_likens_1 23 rfl rfl)
theorem dX1_likens_48 : decode cX1_likens 48 = .ok (.getfield 10, 3) := dk_180 0 10 (dk_at dksX1_likens_2 0 rfl rfl)
theorem dX1_likens_51 : decode cX1_likens 51 = .ok (.getfield 155, 3) := dk_180 0 155 (dk_at dksX1_likens_2 3 rfl rfl)
theorem dX1_likens_54 : decode cX1_likens 54 = .ok (.iload_n 2, 1) := dk_28 (dk_at dksX1_likens_2 6 rfl rfl)
theorem dX1_likens_55 : decode cX1_likens 55 = .ok (.aaload, 1) := dk_50 (dk_at dksX1_likens_2 7 rfl rfl)
theorem dX1_likens_56 : decode cX1_likens 56 = .ok (.iload_n 3, 1) := dk_29 (dk_at dksX1_likens_2 8 rfl rfl)
theorem dX1_likens_57 : decode cX1_likens 57 = .ok (.iaload, 1) := dk_46 (dk_at dksX1_likens_2 9 rfl rfl)
theorem dX1_likens_58 : decode cX1_likens 58 = .ok (.if_icmp .eq 5, 3) := dk_159 0 5 (dk_at dksX1_likens_2 10 rfl rfl)
theorem dX1_likens_61 : decode cX1_likens 61 = .ok (.iconst 0, 1) := dk_3 (dk_at dksX1_likens_2 13 rfl rfl)
theorem dX1_likens_62 : decode cX1_likens 62 = .ok (.ireturn, 1) := dk_172 (dk_at dksX1_likens_2 14 rfl rfl)
theorem dX1_likens_63 : decode cX1_likens 63 = .ok (.iinc 3 1, 3) := dk_132 3 1 (dk_at dksX1_likens_2 15 rfl rfl)
theorem dX1_likens_66 : decode cX1_likens 66 = .ok (.goto (-41), 3) := dk_167 255 215 (dk_at dksX1_likens_2 18 rfl rfl)
theorem dX1_likens_69 : decode cX1_likens 69 = .ok (.iconst 1, 1) := dk_4 (dk_at dksX1_likens_2 21 rfl rfl)
theorem dX1_likens_70 : decode cX1_likens 70 = .ok (.ireturn, 1) := dk_172 (dk_at dksX1_likens_2 22 rfl rfl)
abbrev cX1_seed : ByteArray := prog_1_method_117_code
def yX1_seed : MethodName := ⟨RX1, "seed", "(I)I"⟩
def dkwX1_seed_0 : List UInt8 := [42, 180, 0, 10, 180, 2, 160, 61, 42, 180, 0, 10, 27, 181, 2, 160, 28, 172]
abbrev dktX1_seed_0 : List UInt8 := dkwX1_seed_0 ++ []
theorem dksX1_seed_0 : cX1_seed.data.toList.drop 0 = dktX1_seed_0 := by decide +kernel
theorem dX1_seed_0 : decode cX1_seed 0 = .ok (.aload_n 0, 1) := dk_42 (dk_at dksX1_seed_0 0 rfl rfl)
theorem dX1_seed_1 : decode cX1_seed 1 = .ok (.getfield 10, 3) := dk_180 0 10 (dk_at dksX1_seed_0 1 rfl rfl)
theorem dX1_seed_4 : decode cX1_seed 4 = .ok (.getfield 672, 3) := dk_180 2 160 (dk_at dksX1_seed_0 4 rfl rfl)
theorem dX1_seed_7 : decode cX1_seed 7 = .ok (.istore_n 2, 1) := dk_61 (dk_at dksX1_seed_0 7 rfl rfl)
theorem dX1_seed_8 : decode cX1_seed 8 = .ok (.aload_n 0, 1) := dk_42 (dk_at dksX1_seed_0 8 rfl rfl)
theorem dX1_seed_9 : decode cX1_seed 9 = .ok (.getfield 10, 3) := dk_180 0 10 (dk_at dksX1_seed_0 9 rfl rfl)
theorem dX1_seed_12 : decode cX1_seed 12 = .ok (.iload_n 1, 1) := dk_27 (dk_at dksX1_seed_0 12 rfl rfl)
theorem dX1_seed_13 : decode cX1_seed 13 = .ok (.putfield 672, 3) := dk_181 2 160 (dk_at dksX1_seed_0 13 rfl rfl)
theorem dX1_seed_16 : decode cX1_seed 16 = .ok (.iload_n 2, 1) := dk_28 (dk_at dksX1_seed_0 16 rfl rfl)
theorem dX1_seed_17 : decode cX1_seed 17 = .ok (.ireturn, 1) := dk_172 (dk_at dksX1_seed_0 17 rfl rfl)
abbrev cX1_undo : ByteArray := prog_1_method_118_code
def yX1_undo : MethodName := ⟨RX1, "undo", "()Z"⟩
def dkwX1_undo_1 : List UInt8 := [182, 1, 122, 4, 100, 182, 2, 14, 192, 0, 7, 182, 1, 3, 87, 4, 172]
abbrev dktX1_undo_1 : List UInt8 := dkwX1_undo_1 ++ []
def dkwX1_undo_0 : List UInt8 := [42, 180, 0, 42, 182, 2, 172, 153, 0, 5, 3, 172, 42, 180, 0, 10, 42, 180, 0, 42, 42, 180, 0, 42]
abbrev dktX1_undo_0 : List UInt8 := dkwX1_undo_0 ++ dktX1_undo_1
theorem dksX1_undo_0 : cX1_undo.data.toList.drop 0 = dktX1_undo_0 := by decide +kernel
theorem dksX1_undo_1 : cX1_undo.data.toList.drop 24 = dktX1_undo_1 := dk_seg dksX1_undo_0 24 rfl rfl
theorem dX1_undo_0 : decode cX1_undo 0 = .ok (.aload_n 0, 1) := dk_42 (dk_at dksX1_undo_0 0 rfl rfl)
theorem dX1_undo_1 : decode cX1_undo 1 = .ok (.getfield 42, 3) := dk_180 0 42 (dk_at dksX1_undo_0 1 rfl rfl)
theorem dX1_undo_4 : decode cX1_undo 4 = .ok (.invokevirtual 684, 3) := dk_182 2 172 (dk_at dksX1_undo_0 4 rfl rfl)
theorem dX1_undo_7 : decode cX1_undo 7 = .ok (.ifCond .eq 5, 3) := dk_153 0 5 (dk_at dksX1_undo_0 7 rfl rfl)
theorem dX1_undo_10 : decode cX1_undo 10 = .ok (.iconst 0, 1) := dk_3 (dk_at dksX1_undo_0 10 rfl rfl)
theorem dX1_undo_11 : decode cX1_undo 11 = .ok (.ireturn, 1) := dk_172 (dk_at dksX1_undo_0 11 rfl rfl)
theorem dX1_undo_12 : decode cX1_undo 12 = .ok (.aload_n 0, 1) := dk_42 (dk_at dksX1_undo_0 12 rfl rfl)
theorem dX1_undo_13 : decode cX1_undo 13 = .ok (.getfield 10, 3) := dk_180 0 10 (dk_at dksX1_undo_0 13 rfl rfl)
theorem dX1_undo_16 : decode cX1_undo 16 = .ok (.aload_n 0, 1) := dk_42 (dk_at dksX1_undo_0 16 rfl rfl)
theorem dX1_undo_17 : decode cX1_undo 17 = .ok (.getfield 42, 3) := dk_180 0 42 (dk_at dksX1_undo_0 17 rfl rfl)
theorem dX1_undo_20 : decode cX1_undo 20 = .ok (.aload_n 0, 1) := dk_42 (dk_at dksX1_undo_0 20 rfl rfl)
theorem dX1_undo_21 : decode cX1_undo 21 = .ok (.getfield 42, 3) := dk_180 0 42 (dk_at dksX1_undo_0 21 rfl rfl)
theorem dX1_undo_24 : decode cX1_undo 24 = .ok (.invokevirtual 378, 3) := dk_182 1 122 (dk_at dksX1_undo_1 0 rfl rfl)
theorem dX1_undo_27 : decode cX1_undo 27 = .ok (.iconst 1, 1) := dk_4 (dk_at dksX1_undo_1 3 rfl rfl)
theorem dX1_undo_28 : decode cX1_undo 28 = .ok (.isub, 1) := dk_100 (dk_at dksX1_undo_1 4 rfl rfl)
theorem dX1_undo_29 : decode cX1_undo 29 = .ok (.invokevirtual 526, 3) := dk_182 2 14 (dk_at dksX1_undo_1 5 rfl rfl)
theorem dX1_undo_32 : decode cX1_undo 32 = .ok (.checkcast 7, 3) := dk_192 0 7 (dk_at dksX1_undo_1 8 rfl rfl)
theorem dX1_undo_35 : decode cX1_undo 35 = .ok (.invokevirtual 259, 3) := dk_182 1 3 (dk_at dksX1_undo_1 11 rfl rfl)
theorem dX1_undo_38 : decode cX1_undo 38 = .ok (.pop, 1) := dk_87 (dk_at dksX1_undo_1 14 rfl rfl)
theorem dX1_undo_39 : decode cX1_undo 39 = .ok (.iconst 1, 1) := dk_4 (dk_at dksX1_undo_1 15 rfl rfl)
theorem dX1_undo_40 : decode cX1_undo 40 = .ok (.ireturn, 1) := dk_172 (dk_at dksX1_undo_1 16 rfl rfl)
abbrev cX1_image : ByteArray := prog_1_method_119_code
def yX1_image : MethodName := ⟨RX1, "image", "()V"⟩
def dkwX1_image_0 : List UInt8 := [42, 4, 181, 2, 175, 42, 180, 0, 19, 42, 180, 0, 10, 182, 1, 3, 87, 177]
abbrev dktX1_image_0 : List UInt8 := dkwX1_image_0 ++ []
theorem dksX1_image_0 : cX1_image.data.toList.drop 0 = dktX1_image_0 := by decide +kernel
theorem dX1_image_0 : decode cX1_image 0 = .ok (.aload_n 0, 1) := dk_42 (dk_at dksX1_image_0 0 rfl rfl)
theorem dX1_image_1 : decode cX1_image 1 = .ok (.iconst 1, 1) := dk_4 (dk_at dksX1_image_0 1 rfl rfl)
theorem dX1_image_2 : decode cX1_image 2 = .ok (.putfield 687, 3) := dk_181 2 175 (dk_at dksX1_image_0 2 rfl rfl)
theorem dX1_image_5 : decode cX1_image 5 = .ok (.aload_n 0, 1) := dk_42 (dk_at dksX1_image_0 5 rfl rfl)
theorem dX1_image_6 : decode cX1_image 6 = .ok (.getfield 19, 3) := dk_180 0 19 (dk_at dksX1_image_0 6 rfl rfl)
theorem dX1_image_9 : decode cX1_image 9 = .ok (.aload_n 0, 1) := dk_42 (dk_at dksX1_image_0 9 rfl rfl)
theorem dX1_image_10 : decode cX1_image 10 = .ok (.getfield 10, 3) := dk_180 0 10 (dk_at dksX1_image_0 10 rfl rfl)
theorem dX1_image_13 : decode cX1_image 13 = .ok (.invokevirtual 259, 3) := dk_182 1 3 (dk_at dksX1_image_0 13 rfl rfl)
theorem dX1_image_16 : decode cX1_image 16 = .ok (.pop, 1) := dk_87 (dk_at dksX1_image_0 16 rfl rfl)
theorem dX1_image_17 : decode cX1_image 17 = .ok (.return_, 1) := dk_177 (dk_at dksX1_image_0 17 rfl rfl)
abbrev cX1_back : ByteArray := prog_1_method_120_code
def yX1_back : MethodName := ⟨RX1, "back", "()Z"⟩
def dkwX1_back_1 : List UInt8 := [180, 0, 42, 182, 1, 21, 4, 172]
abbrev dktX1_back_1 : List UInt8 := dkwX1_back_1 ++ []
def dkwX1_back_0 : List UInt8 := [42, 180, 2, 175, 154, 0, 5, 3, 172, 42, 180, 0, 10, 42, 180, 0, 19, 182, 1, 3, 87, 42]
abbrev dktX1_back_0 : List UInt8 := dkwX1_back_0 ++ dktX1_back_1
theorem dksX1_back_0 : cX1_back.data.toList.drop 0 = dktX1_back_0 := by decide +kernel
theorem dksX1_back_1 : cX1_back.data.toList.drop 22 = dktX1_back_1 := dk_seg dksX1_back_0 22 rfl rfl
theorem dX1_back_0 : decode cX1_back 0 = .ok (.aload_n 0, 1) := dk_42 (dk_at dksX1_back_0 0 rfl rfl)
theorem dX1_back_1 : decode cX1_back 1 = .ok (.getfield 687, 3) := dk_180 2 175 (dk_at dksX1_back_0 1 rfl rfl)
theorem dX1_back_4 : decode cX1_back 4 = .ok (.ifCond .ne 5, 3) := dk_154 0 5 (dk_at dksX1_back_0 4 rfl rfl)
theorem dX1_back_7 : decode cX1_back 7 = .ok (.iconst 0, 1) := dk_3 (dk_at dksX1_back_0 7 rfl rfl)
theorem dX1_back_8 : decode cX1_back 8 = .ok (.ireturn, 1) := dk_172 (dk_at dksX1_back_0 8 rfl rfl)
theorem dX1_back_9 : decode cX1_back 9 = .ok (.aload_n 0, 1) := dk_42 (dk_at dksX1_back_0 9 rfl rfl)
theorem dX1_back_10 : decode cX1_back 10 = .ok (.getfield 10, 3) := dk_180 0 10 (dk_at dksX1_back_0 10 rfl rfl)
theorem dX1_back_13 : decode cX1_back 13 = .ok (.aload_n 0, 1) := dk_42 (dk_at dksX1_back_0 13 rfl rfl)
theorem dX1_back_14 : decode cX1_back 14 = .ok (.getfield 19, 3) := dk_180 0 19 (dk_at dksX1_back_0 14 rfl rfl)
theorem dX1_back_17 : decode cX1_back 17 = .ok (.invokevirtual 259, 3) := dk_182 1 3 (dk_at dksX1_back_0 17 rfl rfl)
theorem dX1_back_20 : decode cX1_back 20 = .ok (.pop, 1) := dk_87 (dk_at dksX1_back_0 20 rfl rfl)
theorem dX1_back_21 : decode cX1_back 21 = .ok (.aload_n 0, 1) := dk_42 (dk_at dksX1_back_0 21 rfl rfl)
theorem dX1_back_22 : decode cX1_back 22 = .ok (.getfield 42, 3) := dk_180 0 42 (dk_at dksX1_back_1 0 rfl rfl)
theorem dX1_back_25 : decode cX1_back 25 = .ok (.invokevirtual 277, 3) := dk_182 1 21 (dk_at dksX1_back_1 3 rfl rfl)
theorem dX1_back_28 : decode cX1_back 28 = .ok (.iconst 1, 1) := dk_4 (dk_at dksX1_back_1 6 rfl rfl)
theorem dX1_back_29 : decode cX1_back 29 = .ok (.ireturn, 1) := dk_172 (dk_at dksX1_back_1 7 rfl rfl)
abbrev cX1_count : ByteArray := prog_1_method_121_code
def yX1_count : MethodName := ⟨RX1, "count", "(I)I"⟩
def dkwX1_count_5 : List UInt8 := [172, 42, 180, 0, 42, 182, 1, 122, 172, 2, 172]
abbrev dktX1_count_5 : List UInt8 := dkwX1_count_5 ++ []
def dkwX1_count_4 : List UInt8 := [44, 180, 0, 229, 172, 44, 180, 0, 231, 172, 44, 182, 2, 178, 172, 44, 182, 1, 245, 172, 44, 180, 2, 166]
abbrev dktX1_count_4 : List UInt8 := dkwX1_count_4 ++ dktX1_count_5
def dkwX1_count_3 : List UInt8 := [167, 0, 13, 44, 180, 1, 133, 180, 1, 119, 182, 1, 122, 172, 44, 180, 0, 227, 172, 44, 180, 0, 225, 172]
abbrev dktX1_count_3 : List UInt8 := dkwX1_count_3 ++ dktX1_count_4
def dkwX1_count_2 : List UInt8 := [44, 180, 0, 132, 172, 44, 180, 0, 168, 172, 44, 180, 1, 15, 172, 44, 180, 1, 133, 199, 0, 7, 2]
abbrev dktX1_count_2 : List UInt8 := dkwX1_count_2 ++ dktX1_count_3
def dkwX1_count_1 : List UInt8 := [170, 0, 0, 0, 0, 142, 0, 0, 0, 0, 0, 0, 0, 11, 0, 0, 0, 62, 0, 0, 0, 67, 0, 0, 0, 72, 0, 0, 0, 77, 0, 0, 0, 99, 0, 0, 0, 104, 0, 0, 0, 109, 0, 0, 0, 114, 0, 0, 0, 119, 0, 0, 0, 124, 0, 0, 0, 129, 0, 0, 0, 134]
abbrev dktX1_count_1 : List UInt8 := dkwX1_count_1 ++ dktX1_count_2
def dkwX1_count_0 : List UInt8 := [42, 180, 0, 10, 77, 27]
abbrev dktX1_count_0 : List UInt8 := dkwX1_count_0 ++ dktX1_count_1
theorem dksX1_count_0 : cX1_count.data.toList.drop 0 = dktX1_count_0 := by decide +kernel
theorem dksX1_count_1 : cX1_count.data.toList.drop 6 = dktX1_count_1 := dk_seg dksX1_count_0 6 rfl rfl
theorem dksX1_count_2 : cX1_count.data.toList.drop 68 = dktX1_count_2 := dk_seg dksX1_count_1 62 rfl rfl
theorem dksX1_count_3 : cX1_count.data.toList.drop 91 = dktX1_count_3 := dk_seg dksX1_count_2 23 rfl rfl
theorem dksX1_count_4 : cX1_count.data.toList.drop 115 = dktX1_count_4 := dk_seg dksX1_count_3 24 rfl rfl
theorem dksX1_count_5 : cX1_count.data.toList.drop 139 = dktX1_count_5 := dk_seg dksX1_count_4 24 rfl rfl
theorem dX1_count_0 : decode cX1_count 0 = .ok (.aload_n 0, 1) := dk_42 (dk_at dksX1_count_0 0 rfl rfl)
theorem dX1_count_1 : decode cX1_count 1 = .ok (.getfield 10, 3) := dk_180 0 10 (dk_at dksX1_count_0 1 rfl rfl)
theorem dX1_count_4 : decode cX1_count 4 = .ok (.astore_n 2, 1) := dk_77 (dk_at dksX1_count_0 4 rfl rfl)
theorem dX1_count_5 : decode cX1_count 5 = .ok (.iload_n 1, 1) := dk_27 (dk_at dksX1_count_0 5 rfl rfl)
theorem dX1_count_6 : decode cX1_count 6 = .ok (.tableswitch 142 0 11 #[62, 67, 72, 77, 99, 104, 109, 114, 119, 124, 129, 134], 62) := by decide +kernel
theorem dX1_count_68 : decode cX1_count 68 = .ok (.aload_n 2, 1) := dk_44 (dk_at dksX1_count_2 0 rfl rfl)
theorem dX1_count_69 : decode cX1_count 69 = .ok (.getfield 132, 3) := dk_180 0 132 (dk_at dksX1_count_2 1 rfl rfl)
theorem dX1_count_72 : decode cX1_count 72 = .ok (.ireturn, 1) := dk_172 (dk_at dksX1_count_2 4 rfl rfl)
theorem dX1_count_73 : decode cX1_count 73 = .ok (.aload_n 2, 1) := dk_44 (dk_at dksX1_count_2 5 rfl rfl)
theorem dX1_count_74 : decode cX1_count 74 = .ok (.getfield 168, 3) := dk_180 0 168 (dk_at dksX1_count_2 6 rfl rfl)
theorem dX1_count_77 : decode cX1_count 77 = .ok (.ireturn, 1) := dk_172 (dk_at dksX1_count_2 9 rfl rfl)
theorem dX1_count_78 : decode cX1_count 78 = .ok (.aload_n 2, 1) := dk_44 (dk_at dksX1_count_2 10 rfl rfl)
theorem dX1_count_79 : decode cX1_count 79 = .ok (.getfield 271, 3) := dk_180 1 15 (dk_at dksX1_count_2 11 rfl rfl)
theorem dX1_count_82 : decode cX1_count 82 = .ok (.ireturn, 1) := dk_172 (dk_at dksX1_count_2 14 rfl rfl)
theorem dX1_count_83 : decode cX1_count 83 = .ok (.aload_n 2, 1) := dk_44 (dk_at dksX1_count_2 15 rfl rfl)
theorem dX1_count_84 : decode cX1_count 84 = .ok (.getfield 389, 3) := dk_180 1 133 (dk_at dksX1_count_2 16 rfl rfl)
theorem dX1_count_87 : decode cX1_count 87 = .ok (.ifnonnull 7, 3) := dk_199 0 7 (dk_at dksX1_count_2 19 rfl rfl)
theorem dX1_count_90 : decode cX1_count 90 = .ok (.iconst (-1), 1) := dk_2 (dk_at dksX1_count_2 22 rfl rfl)
theorem dX1_count_91 : decode cX1_count 91 = .ok (.goto 13, 3) := dk_167 0 13 (dk_at dksX1_count_3 0 rfl rfl)
theorem dX1_count_94 : decode cX1_count 94 = .ok (.aload_n 2, 1) := dk_44 (dk_at dksX1_count_3 3 rfl rfl)
theorem dX1_count_95 : decode cX1_count 95 = .ok (.getfield 389, 3) := dk_180 1 133 (dk_at dksX1_count_3 4 rfl rfl)
theorem dX1_count_98 : decode cX1_count 98 = .ok (.getfield 375, 3) := dk_180 1 119 (dk_at dksX1_count_3 7 rfl rfl)
theorem dX1_count_101 : decode cX1_count 101 = .ok (.invokevirtual 378, 3) := dk_182 1 122 (dk_at dksX1_count_3 10 rfl rfl)
theorem dX1_count_104 : decode cX1_count 104 = .ok (.ireturn, 1) := dk_172 (dk_at dksX1_count_3 13 rfl rfl)
theorem dX1_count_105 : decode cX1_count 105 = .ok (.aload_n 2, 1) := dk_44 (dk_at dksX1_count_3 14 rfl rfl)
theorem dX1_count_106 : decode cX1_count 106 = .ok (.getfield 227, 3) := dk_180 0 227 (dk_at dksX1_count_3 15 rfl rfl)
theorem dX1_count_109 : decode cX1_count 109 = .ok (.ireturn, 1) := dk_172 (dk_at dksX1_count_3 18 rfl rfl)
theorem dX1_count_110 : decode cX1_count 110 = .ok (.aload_n 2, 1) := dk_44 (dk_at dksX1_count_3 19 rfl rfl)
theorem dX1_count_111 : decode cX1_count 111 = .ok (.getfield 225, 3) := dk_180 0 225 (dk_at dksX1_count_3 20 rfl rfl)
theorem dX1_count_114 : decode cX1_count 114 = .ok (.ireturn, 1) := dk_172 (dk_at dksX1_count_3 23 rfl rfl)
theorem dX1_count_115 : decode cX1_count 115 = .ok (.aload_n 2, 1) := dk_44 (dk_at dksX1_count_4 0 rfl rfl)
theorem dX1_count_116 : decode cX1_count 116 = .ok (.getfield 229, 3) := dk_180 0 229 (dk_at dksX1_count_4 1 rfl rfl)
theorem dX1_count_119 : decode cX1_count 119 = .ok (.ireturn, 1) := dk_172 (dk_at dksX1_count_4 4 rfl rfl)
theorem dX1_count_120 : decode cX1_count 120 = .ok (.aload_n 2, 1) := dk_44 (dk_at dksX1_count_4 5 rfl rfl)
theorem dX1_count_121 : decode cX1_count 121 = .ok (.getfield 231, 3) := dk_180 0 231 (dk_at dksX1_count_4 6 rfl rfl)
theorem dX1_count_124 : decode cX1_count 124 = .ok (.ireturn, 1) := dk_172 (dk_at dksX1_count_4 9 rfl rfl)
theorem dX1_count_125 : decode cX1_count 125 = .ok (.aload_n 2, 1) := dk_44 (dk_at dksX1_count_4 10 rfl rfl)
theorem dX1_count_126 : decode cX1_count 126 = .ok (.invokevirtual 690, 3) := dk_182 2 178 (dk_at dksX1_count_4 11 rfl rfl)
theorem dX1_count_129 : decode cX1_count 129 = .ok (.ireturn, 1) := dk_172 (dk_at dksX1_count_4 14 rfl rfl)
theorem dX1_count_130 : decode cX1_count 130 = .ok (.aload_n 2, 1) := dk_44 (dk_at dksX1_count_4 15 rfl rfl)
theorem dX1_count_131 : decode cX1_count 131 = .ok (.invokevirtual 501, 3) := dk_182 1 245 (dk_at dksX1_count_4 16 rfl rfl)
theorem dX1_count_134 : decode cX1_count 134 = .ok (.ireturn, 1) := dk_172 (dk_at dksX1_count_4 19 rfl rfl)
theorem dX1_count_135 : decode cX1_count 135 = .ok (.aload_n 2, 1) := dk_44 (dk_at dksX1_count_4 20 rfl rfl)
theorem dX1_count_136 : decode cX1_count 136 = .ok (.getfield 678, 3) := dk_180 2 166 (dk_at dksX1_count_4 21 rfl rfl)
theorem dX1_count_139 : decode cX1_count 139 = .ok (.ireturn, 1) := dk_172 (dk_at dksX1_count_5 0 rfl rfl)
theorem dX1_count_140 : decode cX1_count 140 = .ok (.aload_n 0, 1) := dk_42 (dk_at dksX1_count_5 1 rfl rfl)
theorem dX1_count_141 : decode cX1_count 141 = .ok (.getfield 42, 3) := dk_180 0 42 (dk_at dksX1_count_5 2 rfl rfl)
theorem dX1_count_144 : decode cX1_count 144 = .ok (.invokevirtual 378, 3) := dk_182 1 122 (dk_at dksX1_count_5 5 rfl rfl)
theorem dX1_count_147 : decode cX1_count 147 = .ok (.ireturn, 1) := dk_172 (dk_at dksX1_count_5 8 rfl rfl)
theorem dX1_count_148 : decode cX1_count 148 = .ok (.iconst (-1), 1) := dk_2 (dk_at dksX1_count_5 9 rfl rfl)
theorem dX1_count_149 : decode cX1_count 149 = .ok (.ireturn, 1) := dk_172 (dk_at dksX1_count_5 10 rfl rfl)
abbrev cX1_ground : ByteArray := prog_1_method_18_code
def yX1_ground : MethodName := ⟨RX1, "ground", "()I"⟩
def dkwX1_ground_4 : List UInt8 := [42, 180, 0, 10, 180, 1, 15, 172]
abbrev dktX1_ground_4 : List UInt8 := dkwX1_ground_4 ++ []
def dkwX1_ground_3 : List UInt8 := [4, 96, 181, 1, 15, 42, 180, 0, 10, 42, 180, 0, 16, 182, 1, 3, 87, 42, 180, 0, 42, 182, 1, 21]
abbrev dktX1_ground_3 : List UInt8 := dkwX1_ground_3 ++ dktX1_ground_4
def dkwX1_ground_2 : List UInt8 := [180, 1, 15, 16, 12, 160, 0, 11, 187, 1, 18, 89, 183, 1, 20, 191, 42, 180, 0, 16, 89, 180, 1, 15]
abbrev dktX1_ground_2 : List UInt8 := dkwX1_ground_2 ++ dktX1_ground_3
def dkwX1_ground_1 : List UInt8 := [182, 1, 7, 42, 180, 0, 25, 2, 181, 0, 82, 167, 0, 8, 76, 42, 182, 1, 12, 42, 180, 0, 10]
abbrev dktX1_ground_1 : List UInt8 := dkwX1_ground_1 ++ dktX1_ground_2
def dkwX1_ground_0 : List UInt8 := [42, 180, 0, 25, 182, 1, 0, 42, 180, 0, 16, 42, 180, 0, 10, 182, 1, 3, 87, 42, 42, 180, 0, 16]
abbrev dktX1_ground_0 : List UInt8 := dkwX1_ground_0 ++ dktX1_ground_1
theorem dksX1_ground_0 : cX1_ground.data.toList.drop 0 = dktX1_ground_0 := by decide +kernel
theorem dksX1_ground_1 : cX1_ground.data.toList.drop 24 = dktX1_ground_1 := dk_seg dksX1_ground_0 24 rfl rfl
theorem dksX1_ground_2 : cX1_ground.data.toList.drop 47 = dktX1_ground_2 := dk_seg dksX1_ground_1 23 rfl rfl
theorem dksX1_ground_3 : cX1_ground.data.toList.drop 71 = dktX1_ground_3 := dk_seg dksX1_ground_2 24 rfl rfl
theorem dksX1_ground_4 : cX1_ground.data.toList.drop 95 = dktX1_ground_4 := dk_seg dksX1_ground_3 24 rfl rfl
theorem dX1_ground_0 : decode cX1_ground 0 = .ok (.aload_n 0, 1) := dk_42 (dk_at dksX1_ground_0 0 rfl rfl)
theorem dX1_ground_1 : decode cX1_ground 1 = .ok (.getfield 25, 3) := dk_180 0 25 (dk_at dksX1_ground_0 1 rfl rfl)
theorem dX1_ground_4 : decode cX1_ground 4 = .ok (.invokevirtual 256, 3) := dk_182 1 0 (dk_at dksX1_ground_0 4 rfl rfl)
theorem dX1_ground_7 : decode cX1_ground 7 = .ok (.aload_n 0, 1) := dk_42 (dk_at dksX1_ground_0 7 rfl rfl)
theorem dX1_ground_8 : decode cX1_ground 8 = .ok (.getfield 16, 3) := dk_180 0 16 (dk_at dksX1_ground_0 8 rfl rfl)
theorem dX1_ground_11 : decode cX1_ground 11 = .ok (.aload_n 0, 1) := dk_42 (dk_at dksX1_ground_0 11 rfl rfl)
theorem dX1_ground_12 : decode cX1_ground 12 = .ok (.getfield 10, 3) := dk_180 0 10 (dk_at dksX1_ground_0 12 rfl rfl)
theorem dX1_ground_15 : decode cX1_ground 15 = .ok (.invokevirtual 259, 3) := dk_182 1 3 (dk_at dksX1_ground_0 15 rfl rfl)
theorem dX1_ground_18 : decode cX1_ground 18 = .ok (.pop, 1) := dk_87 (dk_at dksX1_ground_0 18 rfl rfl)
theorem dX1_ground_19 : decode cX1_ground 19 = .ok (.aload_n 0, 1) := dk_42 (dk_at dksX1_ground_0 19 rfl rfl)
theorem dX1_ground_20 : decode cX1_ground 20 = .ok (.aload_n 0, 1) := dk_42 (dk_at dksX1_ground_0 20 rfl rfl)
theorem dX1_ground_21 : decode cX1_ground 21 = .ok (.getfield 16, 3) := dk_180 0 16 (dk_at dksX1_ground_0 21 rfl rfl)
theorem dX1_ground_24 : decode cX1_ground 24 = .ok (.invokevirtual 263, 3) := dk_182 1 7 (dk_at dksX1_ground_1 0 rfl rfl)
theorem dX1_ground_27 : decode cX1_ground 27 = .ok (.aload_n 0, 1) := dk_42 (dk_at dksX1_ground_1 3 rfl rfl)
theorem dX1_ground_28 : decode cX1_ground 28 = .ok (.getfield 25, 3) := dk_180 0 25 (dk_at dksX1_ground_1 4 rfl rfl)
theorem dX1_ground_31 : decode cX1_ground 31 = .ok (.iconst (-1), 1) := dk_2 (dk_at dksX1_ground_1 7 rfl rfl)
theorem dX1_ground_32 : decode cX1_ground 32 = .ok (.putfield 82, 3) := dk_181 0 82 (dk_at dksX1_ground_1 8 rfl rfl)
theorem dX1_ground_35 : decode cX1_ground 35 = .ok (.goto 8, 3) := dk_167 0 8 (dk_at dksX1_ground_1 11 rfl rfl)
theorem dX1_ground_38 : decode cX1_ground 38 = .ok (.astore_n 1, 1) := dk_76 (dk_at dksX1_ground_1 14 rfl rfl)
theorem dX1_ground_39 : decode cX1_ground 39 = .ok (.aload_n 0, 1) := dk_42 (dk_at dksX1_ground_1 15 rfl rfl)
theorem dX1_ground_40 : decode cX1_ground 40 = .ok (.invokevirtual 268, 3) := dk_182 1 12 (dk_at dksX1_ground_1 16 rfl rfl)
theorem dX1_ground_43 : decode cX1_ground 43 = .ok (.aload_n 0, 1) := dk_42 (dk_at dksX1_ground_1 19 rfl rfl)
theorem dX1_ground_44 : decode cX1_ground 44 = .ok (.getfield 10, 3) := dk_180 0 10 (dk_at dksX1_ground_1 20 rfl rfl)
theorem dX1_ground_47 : decode cX1_ground 47 = .ok (.getfield 271, 3) := dk_180 1 15 (dk_at dksX1_ground_2 0 rfl rfl)
theorem dX1_ground_50 : decode cX1_ground 50 = .ok (.bipush 12, 2) := dk_16 12 (dk_at dksX1_ground_2 3 rfl rfl)
theorem dX1_ground_52 : decode cX1_ground 52 = .ok (.if_icmp .ne 11, 3) := dk_160 0 11 (dk_at dksX1_ground_2 5 rfl rfl)
theorem dX1_ground_55 : decode cX1_ground 55 = .ok (.new 274, 3) := dk_187 1 18 (dk_at dksX1_ground_2 8 rfl rfl)
theorem dX1_ground_58 : decode cX1_ground 58 = .ok (.dup, 1) := dk_89 (dk_at dksX1_ground_2 11 rfl rfl)
theorem dX1_ground_59 : decode cX1_ground 59 = .ok (.invokespecial 276, 3) := dk_183 1 20 (dk_at dksX1_ground_2 12 rfl rfl)
theorem dX1_ground_62 : decode cX1_ground 62 = .ok (.athrow, 1) := dk_191 (dk_at dksX1_ground_2 15 rfl rfl)
theorem dX1_ground_63 : decode cX1_ground 63 = .ok (.aload_n 0, 1) := dk_42 (dk_at dksX1_ground_2 16 rfl rfl)
theorem dX1_ground_64 : decode cX1_ground 64 = .ok (.getfield 16, 3) := dk_180 0 16 (dk_at dksX1_ground_2 17 rfl rfl)
theorem dX1_ground_67 : decode cX1_ground 67 = .ok (.dup, 1) := dk_89 (dk_at dksX1_ground_2 20 rfl rfl)
theorem dX1_ground_68 : decode cX1_ground 68 = .ok (.getfield 271, 3) := dk_180 1 15 (dk_at dksX1_ground_2 21 rfl rfl)
theorem dX1_ground_71 : decode cX1_ground 71 = .ok (.iconst 1, 1) := dk_4 (dk_at dksX1_ground_3 0 rfl rfl)
theorem dX1_ground_72 : decode cX1_ground 72 = .ok (.iadd, 1) := dk_96 (dk_at dksX1_ground_3 1 rfl rfl)
theorem dX1_ground_73 : decode cX1_ground 73 = .ok (.putfield 271, 3) := dk_181 1 15 (dk_at dksX1_ground_3 2 rfl rfl)
theorem dX1_ground_76 : decode cX1_ground 76 = .ok (.aload_n 0, 1) := dk_42 (dk_at dksX1_ground_3 5 rfl rfl)
theorem dX1_ground_77 : decode cX1_ground 77 = .ok (.getfield 10, 3) := dk_180 0 10 (dk_at dksX1_ground_3 6 rfl rfl)
theorem dX1_ground_80 : decode cX1_ground 80 = .ok (.aload_n 0, 1) := dk_42 (dk_at dksX1_ground_3 9 rfl rfl)
theorem dX1_ground_81 : decode cX1_ground 81 = .ok (.getfield 16, 3) := dk_180 0 16 (dk_at dksX1_ground_3 10 rfl rfl)
theorem dX1_ground_84 : decode cX1_ground 84 = .ok (.invokevirtual 259, 3) := dk_182 1 3 (dk_at dksX1_ground_3 13 rfl rfl)
theorem dX1_ground_87 : decode cX1_ground 87 = .ok (.pop, 1) := dk_87 (dk_at dksX1_ground_3 16 rfl rfl)
theorem dX1_ground_88 : decode cX1_ground 88 = .ok (.aload_n 0, 1) := dk_42 (dk_at dksX1_ground_3 17 rfl rfl)
theorem dX1_ground_89 : decode cX1_ground 89 = .ok (.getfield 42, 3) := dk_180 0 42 (dk_at dksX1_ground_3 18 rfl rfl)
theorem dX1_ground_92 : decode cX1_ground 92 = .ok (.invokevirtual 277, 3) := dk_182 1 21 (dk_at dksX1_ground_3 21 rfl rfl)
theorem dX1_ground_95 : decode cX1_ground 95 = .ok (.aload_n 0, 1) := dk_42 (dk_at dksX1_ground_4 0 rfl rfl)
theorem dX1_ground_96 : decode cX1_ground 96 = .ok (.getfield 10, 3) := dk_180 0 10 (dk_at dksX1_ground_4 1 rfl rfl)
theorem dX1_ground_99 : decode cX1_ground 99 = .ok (.getfield 271, 3) := dk_180 1 15 (dk_at dksX1_ground_4 4 rfl rfl)
theorem dX1_ground_102 : decode cX1_ground 102 = .ok (.ireturn, 1) := dk_172 (dk_at dksX1_ground_4 7 rfl rfl)
abbrev cX1_groundText : ByteArray := prog_1_method_14_code
def yX1_groundText : MethodName := ⟨RX1, "groundText", "(LVisitingHours$World;)V"⟩
def dkwX1_groundText_1 : List UInt8 := [182, 0, 241, 132, 2, 1, 42, 182, 0, 244, 154, 255, 237, 177]
abbrev dktX1_groundText_1 : List UInt8 := dkwX1_groundText_1 ++ []
def dkwX1_groundText_0 : List UInt8 := [42, 180, 0, 25, 182, 0, 233, 153, 0, 4, 177, 3, 61, 42, 28, 16, 14, 182, 0, 237, 42, 43]
abbrev dktX1_groundText_0 : List UInt8 := dkwX1_groundText_0 ++ dktX1_groundText_1
theorem dksX1_groundText_0 : cX1_groundText.data.toList.drop 0 = dktX1_groundText_0 := by decide +kernel
theorem dksX1_groundText_1 : cX1_groundText.data.toList.drop 22 = dktX1_groundText_1 := dk_seg dksX1_groundText_0 22 rfl rfl
theorem dX1_groundText_0 : decode cX1_groundText 0 = .ok (.aload_n 0, 1) := dk_42 (dk_at dksX1_groundText_0 0 rfl rfl)
theorem dX1_groundText_1 : decode cX1_groundText 1 = .ok (.getfield 25, 3) := dk_180 0 25 (dk_at dksX1_groundText_0 1 rfl rfl)
theorem dX1_groundText_4 : decode cX1_groundText 4 = .ok (.invokevirtual 233, 3) := dk_182 0 233 (dk_at dksX1_groundText_0 4 rfl rfl)
theorem dX1_groundText_7 : decode cX1_groundText 7 = .ok (.ifCond .eq 4, 3) := dk_153 0 4 (dk_at dksX1_groundText_0 7 rfl rfl)
theorem dX1_groundText_10 : decode cX1_groundText 10 = .ok (.return_, 1) := dk_177 (dk_at dksX1_groundText_0 10 rfl rfl)
theorem dX1_groundText_11 : decode cX1_groundText 11 = .ok (.iconst 0, 1) := dk_3 (dk_at dksX1_groundText_0 11 rfl rfl)
theorem dX1_groundText_12 : decode cX1_groundText 12 = .ok (.istore_n 2, 1) := dk_61 (dk_at dksX1_groundText_0 12 rfl rfl)
theorem dX1_groundText_13 : decode cX1_groundText 13 = .ok (.aload_n 0, 1) := dk_42 (dk_at dksX1_groundText_0 13 rfl rfl)
theorem dX1_groundText_14 : decode cX1_groundText 14 = .ok (.iload_n 2, 1) := dk_28 (dk_at dksX1_groundText_0 14 rfl rfl)
theorem dX1_groundText_15 : decode cX1_groundText 15 = .ok (.bipush 14, 2) := dk_16 14 (dk_at dksX1_groundText_0 15 rfl rfl)
theorem dX1_groundText_17 : decode cX1_groundText 17 = .ok (.invokevirtual 237, 3) := dk_182 0 237 (dk_at dksX1_groundText_0 17 rfl rfl)
theorem dX1_groundText_20 : decode cX1_groundText 20 = .ok (.aload_n 0, 1) := dk_42 (dk_at dksX1_groundText_0 20 rfl rfl)
theorem dX1_groundText_21 : decode cX1_groundText 21 = .ok (.aload_n 1, 1) := dk_43 (dk_at dksX1_groundText_0 21 rfl rfl)
theorem dX1_groundText_22 : decode cX1_groundText 22 = .ok (.invokevirtual 241, 3) := dk_182 0 241 (dk_at dksX1_groundText_1 0 rfl rfl)
theorem dX1_groundText_25 : decode cX1_groundText 25 = .ok (.iinc 2 1, 3) := dk_132 2 1 (dk_at dksX1_groundText_1 3 rfl rfl)
theorem dX1_groundText_28 : decode cX1_groundText 28 = .ok (.aload_n 0, 1) := dk_42 (dk_at dksX1_groundText_1 6 rfl rfl)
theorem dX1_groundText_29 : decode cX1_groundText 29 = .ok (.invokevirtual 244, 3) := dk_182 0 244 (dk_at dksX1_groundText_1 7 rfl rfl)
theorem dX1_groundText_32 : decode cX1_groundText 32 = .ok (.ifCond .ne (-19), 3) := dk_154 255 237 (dk_at dksX1_groundText_1 10 rfl rfl)
theorem dX1_groundText_35 : decode cX1_groundText 35 = .ok (.return_, 1) := dk_177 (dk_at dksX1_groundText_1 13 rfl rfl)
abbrev cX1_noMore : ByteArray := prog_1_method_15_code
def yX1_noMore : MethodName := ⟨RX1, "noMore", "(II)V"⟩
def dkwX1_noMore_0 : List UInt8 := [27, 28, 162, 0, 4, 177, 42, 180, 0, 25, 182, 0, 86, 87, 42, 180, 0, 25, 182, 0, 96, 191]
abbrev dktX1_noMore_0 : List UInt8 := dkwX1_noMore_0 ++ []
theorem dksX1_noMore_0 : cX1_noMore.data.toList.drop 0 = dktX1_noMore_0 := by decide +kernel
theorem dX1_noMore_0 : decode cX1_noMore 0 = .ok (.iload_n 1, 1) := dk_27 (dk_at dksX1_noMore_0 0 rfl rfl)
theorem dX1_noMore_1 : decode cX1_noMore 1 = .ok (.iload_n 2, 1) := dk_28 (dk_at dksX1_noMore_0 1 rfl rfl)
theorem dX1_noMore_2 : decode cX1_noMore 2 = .ok (.if_icmp .ge 4, 3) := dk_162 0 4 (dk_at dksX1_noMore_0 2 rfl rfl)
theorem dX1_noMore_5 : decode cX1_noMore 5 = .ok (.return_, 1) := dk_177 (dk_at dksX1_noMore_0 5 rfl rfl)
theorem dX1_noMore_6 : decode cX1_noMore 6 = .ok (.aload_n 0, 1) := dk_42 (dk_at dksX1_noMore_0 6 rfl rfl)
theorem dX1_noMore_7 : decode cX1_noMore 7 = .ok (.getfield 25, 3) := dk_180 0 25 (dk_at dksX1_noMore_0 7 rfl rfl)
theorem dX1_noMore_10 : decode cX1_noMore 10 = .ok (.invokevirtual 86, 3) := dk_182 0 86 (dk_at dksX1_noMore_0 10 rfl rfl)
theorem dX1_noMore_13 : decode cX1_noMore 13 = .ok (.pop, 1) := dk_87 (dk_at dksX1_noMore_0 13 rfl rfl)
theorem dX1_noMore_14 : decode cX1_noMore 14 = .ok (.aload_n 0, 1) := dk_42 (dk_at dksX1_noMore_0 14 rfl rfl)
theorem dX1_noMore_15 : decode cX1_noMore 15 = .ok (.getfield 25, 3) := dk_180 0 25 (dk_at dksX1_noMore_0 15 rfl rfl)
theorem dX1_noMore_18 : decode cX1_noMore 18 = .ok (.invokevirtual 96, 3) := dk_182 0 96 (dk_at dksX1_noMore_0 18 rfl rfl)
theorem dX1_noMore_21 : decode cX1_noMore 21 = .ok (.athrow, 1) := dk_191 (dk_at dksX1_noMore_0 21 rfl rfl)
abbrev cX1_in : ByteArray := prog_1_method_2_code
def yX1_in : MethodName := ⟨RX1, "in", "(III)Z"⟩
def dkwX1_in_0 : List UInt8 := [26, 27, 161, 0, 12, 26, 28, 163, 0, 7, 4, 167, 0, 4, 3, 172]
abbrev dktX1_in_0 : List UInt8 := dkwX1_in_0 ++ []
theorem dksX1_in_0 : cX1_in.data.toList.drop 0 = dktX1_in_0 := by decide +kernel
theorem dX1_in_0 : decode cX1_in 0 = .ok (.iload_n 0, 1) := dk_26 (dk_at dksX1_in_0 0 rfl rfl)
theorem dX1_in_1 : decode cX1_in 1 = .ok (.iload_n 1, 1) := dk_27 (dk_at dksX1_in_0 1 rfl rfl)
theorem dX1_in_2 : decode cX1_in 2 = .ok (.if_icmp .lt 12, 3) := dk_161 0 12 (dk_at dksX1_in_0 2 rfl rfl)
theorem dX1_in_5 : decode cX1_in 5 = .ok (.iload_n 0, 1) := dk_26 (dk_at dksX1_in_0 5 rfl rfl)
theorem dX1_in_6 : decode cX1_in 6 = .ok (.iload_n 2, 1) := dk_28 (dk_at dksX1_in_0 6 rfl rfl)
theorem dX1_in_7 : decode cX1_in 7 = .ok (.if_icmp .gt 7, 3) := dk_163 0 7 (dk_at dksX1_in_0 7 rfl rfl)
theorem dX1_in_10 : decode cX1_in 10 = .ok (.iconst 1, 1) := dk_4 (dk_at dksX1_in_0 10 rfl rfl)
theorem dX1_in_11 : decode cX1_in 11 = .ok (.goto 4, 3) := dk_167 0 4 (dk_at dksX1_in_0 11 rfl rfl)
theorem dX1_in_14 : decode cX1_in 14 = .ok (.iconst 0, 1) := dk_3 (dk_at dksX1_in_0 14 rfl rfl)
theorem dX1_in_15 : decode cX1_in 15 = .ok (.ireturn, 1) := dk_172 (dk_at dksX1_in_0 15 rfl rfl)
abbrev cX1_groundLine : ByteArray := prog_1_method_13_code
def yX1_groundLine : MethodName := ⟨RX1, "groundLine", "(LVisitingHours$World;)V"⟩
def dkwX1_groundLine_13 : List UInt8 := [181, 0, 229, 177, 43, 42, 182, 0, 186, 181, 0, 231, 177, 44, 182, 0, 96, 191]
abbrev dktX1_groundLine_13 : List UInt8 := dkwX1_groundLine_13 ++ []
def dkwX1_groundLine_12 : List UInt8 := [181, 0, 225, 177, 43, 44, 3, 17, 3, 231, 182, 0, 104, 181, 0, 227, 177, 43, 42, 182, 0, 186]
abbrev dktX1_groundLine_12 : List UInt8 := dkwX1_groundLine_12 ++ dktX1_groundLine_13
def dkwX1_groundLine_11 : List UInt8 := [4, 100, 182, 0, 104, 50, 43, 180, 0, 132, 182, 0, 222, 177, 43, 44, 3, 16, 100, 182, 0, 104]
abbrev dktX1_groundLine_11 : List UInt8 := dkwX1_groundLine_11 ++ dktX1_groundLine_12
def dkwX1_groundLine_10 : List UInt8 := [100, 182, 0, 104, 50, 43, 180, 0, 168, 182, 0, 222, 177, 42, 43, 180, 0, 165, 44, 3, 43, 180, 0, 168]
abbrev dktX1_groundLine_10 : List UInt8 := dkwX1_groundLine_10 ++ dktX1_groundLine_11
def dkwX1_groundLine_9 : List UInt8 := [42, 43, 182, 0, 215, 177, 42, 43, 182, 0, 219, 177, 42, 43, 180, 0, 155, 44, 3, 43, 180, 0, 132, 4]
abbrev dktX1_groundLine_9 : List UInt8 := dkwX1_groundLine_9 ++ dktX1_groundLine_10
def dkwX1_groundLine_8 : List UInt8 := [170, 0, 0, 0, 0, 0, 152, 0, 0, 0, 0, 0, 0, 0, 7, 0, 0, 0, 47, 0, 0, 0, 53, 0, 0, 0, 59, 0, 0, 0, 84, 0, 0, 0, 109, 0, 0, 0, 121, 0, 0, 0, 134, 0, 0, 0, 143]
abbrev dktX1_groundLine_8 : List UInt8 := dkwX1_groundLine_8 ++ dktX1_groundLine_9
def dkwX1_groundLine_7 : List UInt8 := [21, 4]
abbrev dktX1_groundLine_7 : List UInt8 := dkwX1_groundLine_7 ++ dktX1_groundLine_8
def dkwX1_groundLine_6 : List UInt8 := [153, 0, 23, 16, 6, 54, 4, 167, 0, 16, 45, 18, 213, 182, 0, 90, 153, 0, 7, 16, 7, 54, 4]
abbrev dktX1_groundLine_6 : List UInt8 := dkwX1_groundLine_6 ++ dktX1_groundLine_7
def dkwX1_groundLine_5 : List UInt8 := [167, 0, 47, 45, 18, 210, 182, 0, 90, 153, 0, 38, 8, 54, 4, 167, 0, 32, 45, 18, 212, 182, 0, 90]
abbrev dktX1_groundLine_5 : List UInt8 := dkwX1_groundLine_5 ++ dktX1_groundLine_6
def dkwX1_groundLine_4 : List UInt8 := [182, 0, 90, 153, 0, 68, 6, 54, 4, 167, 0, 62, 45, 18, 208, 182, 0, 90, 153, 0, 53, 7, 54, 4]
abbrev dktX1_groundLine_4 : List UInt8 := dkwX1_groundLine_4 ++ dktX1_groundLine_5
def dkwX1_groundLine_3 : List UInt8 := [4, 54, 4, 167, 0, 92, 45, 18, 206, 182, 0, 90, 153, 0, 83, 5, 54, 4, 167, 0, 77, 45, 18, 207]
abbrev dktX1_groundLine_3 : List UInt8 := dkwX1_groundLine_3 ++ dktX1_groundLine_4
def dkwX1_groundLine_2 : List UInt8 := [45, 18, 202, 182, 0, 90, 153, 0, 113, 3, 54, 4, 167, 0, 107, 45, 18, 204, 182, 0, 90, 153, 0, 98]
abbrev dktX1_groundLine_2 : List UInt8 := dkwX1_groundLine_2 ++ dktX1_groundLine_3
def dkwX1_groundLine_1 : List UInt8 := [171, 0, 0, 0, 0, 0, 194, 0, 0, 0, 8, 0, 46, 6, 192, 0, 0, 0, 181, 0, 48, 245, 168, 0, 0, 0, 75, 0, 53, 75, 148, 0, 0, 0, 135, 0, 55, 159, 244, 0, 0, 0, 150, 5, 226, 45, 216, 0, 0, 0, 90, 6, 35, 67, 188, 0, 0, 0, 105, 6, 38, 39, 65, 0, 0, 0, 120, 6, 61, 138, 157, 0, 0, 0, 165]
abbrev dktX1_groundLine_1 : List UInt8 := dkwX1_groundLine_1 ++ dktX1_groundLine_2
def dkwX1_groundLine_0 : List UInt8 := [42, 180, 0, 25, 77, 44, 182, 0, 86, 78, 2, 54, 4, 45, 182, 0, 199]
abbrev dktX1_groundLine_0 : List UInt8 := dkwX1_groundLine_0 ++ dktX1_groundLine_1
theorem dksX1_groundLine_0 : cX1_groundLine.data.toList.drop 0 = dktX1_groundLine_0 := by decide +kernel
theorem dksX1_groundLine_1 : cX1_groundLine.data.toList.drop 17 = dktX1_groundLine_1 := dk_seg dksX1_groundLine_0 17 rfl rfl
theorem dksX1_groundLine_2 : cX1_groundLine.data.toList.drop 92 = dktX1_groundLine_2 := dk_seg dksX1_groundLine_1 75 rfl rfl
theorem dksX1_groundLine_3 : cX1_groundLine.data.toList.drop 116 = dktX1_groundLine_3 := dk_seg dksX1_groundLine_2 24 rfl rfl
theorem dksX1_groundLine_4 : cX1_groundLine.data.toList.drop 140 = dktX1_groundLine_4 := dk_seg dksX1_groundLine_3 24 rfl rfl
theorem dksX1_groundLine_5 : cX1_groundLine.data.toList.drop 164 = dktX1_groundLine_5 := dk_seg dksX1_groundLine_4 24 rfl rfl
theorem dksX1_groundLine_6 : cX1_groundLine.data.toList.drop 188 = dktX1_groundLine_6 := dk_seg dksX1_groundLine_5 24 rfl rfl
theorem dksX1_groundLine_7 : cX1_groundLine.data.toList.drop 211 = dktX1_groundLine_7 := dk_seg dksX1_groundLine_6 23 rfl rfl
theorem dksX1_groundLine_8 : cX1_groundLine.data.toList.drop 213 = dktX1_groundLine_8 := dk_seg dksX1_groundLine_7 2 rfl rfl
theorem dksX1_groundLine_9 : cX1_groundLine.data.toList.drop 260 = dktX1_groundLine_9 := dk_seg dksX1_groundLine_8 47 rfl rfl
theorem dksX1_groundLine_10 : cX1_groundLine.data.toList.drop 284 = dktX1_groundLine_10 := dk_seg dksX1_groundLine_9 24 rfl rfl
theorem dksX1_groundLine_11 : cX1_groundLine.data.toList.drop 308 = dktX1_groundLine_11 := dk_seg dksX1_groundLine_10 24 rfl rfl
theorem dksX1_groundLine_12 : cX1_groundLine.data.toList.drop 330 = dktX1_groundLine_12 := dk_seg dksX1_groundLine_11 22 rfl rfl
theorem dksX1_groundLine_13 : cX1_groundLine.data.toList.drop 352 = dktX1_groundLine_13 := dk_seg dksX1_groundLine_12 22 rfl rfl
theorem dX1_groundLine_0 : decode cX1_groundLine 0 = .ok (.aload_n 0, 1) := dk_42 (dk_at dksX1_groundLine_0 0 rfl rfl)
theorem dX1_groundLine_1 : decode cX1_groundLine 1 = .ok (.getfield 25, 3) := dk_180 0 25 (dk_at dksX1_groundLine_0 1 rfl rfl)
theorem dX1_groundLine_4 : decode cX1_groundLine 4 = .ok (.astore_n 2, 1) := dk_77 (dk_at dksX1_groundLine_0 4 rfl rfl)
theorem dX1_groundLine_5 : decode cX1_groundLine 5 = .ok (.aload_n 2, 1) := dk_44 (dk_at dksX1_groundLine_0 5 rfl rfl)
theorem dX1_groundLine_6 : decode cX1_groundLine 6 = .ok (.invokevirtual 86, 3) := dk_182 0 86 (dk_at dksX1_groundLine_0 6 rfl rfl)
theorem dX1_groundLine_9 : decode cX1_groundLine 9 = .ok (.astore_n 3, 1) := dk_78 (dk_at dksX1_groundLine_0 9 rfl rfl)
theorem dX1_groundLine_10 : decode cX1_groundLine 10 = .ok (.iconst (-1), 1) := dk_2 (dk_at dksX1_groundLine_0 10 rfl rfl)
theorem dX1_groundLine_11 : decode cX1_groundLine 11 = .ok (.istore 4, 2) := dk_54 4 (dk_at dksX1_groundLine_0 11 rfl rfl)
theorem dX1_groundLine_13 : decode cX1_groundLine 13 = .ok (.aload_n 3, 1) := dk_45 (dk_at dksX1_groundLine_0 13 rfl rfl)
theorem dX1_groundLine_14 : decode cX1_groundLine 14 = .ok (.invokevirtual 199, 3) := dk_182 0 199 (dk_at dksX1_groundLine_0 14 rfl rfl)
theorem dX1_groundLine_17 : decode cX1_groundLine 17 = .ok (.lookupswitch 194 #[(3016384, 181), (3208616, 75), (3492756, 135), (3645428, 150), (98708952, 90), (102974396, 105), (103163713, 120), (104696477, 165)], 75) := by decide +kernel
theorem dX1_groundLine_92 : decode cX1_groundLine 92 = .ok (.aload_n 3, 1) := dk_45 (dk_at dksX1_groundLine_2 0 rfl rfl)
theorem dX1_groundLine_93 : decode cX1_groundLine 93 = .ok (.ldc 202, 2) := dk_18 202 (dk_at dksX1_groundLine_2 1 rfl rfl)
theorem dX1_groundLine_95 : decode cX1_groundLine 95 = .ok (.invokevirtual 90, 3) := dk_182 0 90 (dk_at dksX1_groundLine_2 3 rfl rfl)
theorem dX1_groundLine_98 : decode cX1_groundLine 98 = .ok (.ifCond .eq 113, 3) := dk_153 0 113 (dk_at dksX1_groundLine_2 6 rfl rfl)
theorem dX1_groundLine_101 : decode cX1_groundLine 101 = .ok (.iconst 0, 1) := dk_3 (dk_at dksX1_groundLine_2 9 rfl rfl)
theorem dX1_groundLine_102 : decode cX1_groundLine 102 = .ok (.istore 4, 2) := dk_54 4 (dk_at dksX1_groundLine_2 10 rfl rfl)
theorem dX1_groundLine_104 : decode cX1_groundLine 104 = .ok (.goto 107, 3) := dk_167 0 107 (dk_at dksX1_groundLine_2 12 rfl rfl)
theorem dX1_groundLine_107 : decode cX1_groundLine 107 = .ok (.aload_n 3, 1) := dk_45 (dk_at dksX1_groundLine_2 15 rfl rfl)
theorem dX1_groundLine_108 : decode cX1_groundLine 108 = .ok (.ldc 204, 2) := dk_18 204 (dk_at dksX1_groundLine_2 16 rfl rfl)
theorem dX1_groundLine_110 : decode cX1_groundLine 110 = .ok (.invokevirtual 90, 3) := dk_182 0 90 (dk_at dksX1_groundLine_2 18 rfl rfl)
theorem dX1_groundLine_113 : decode cX1_groundLine 113 = .ok (.ifCond .eq 98, 3) := dk_153 0 98 (dk_at dksX1_groundLine_2 21 rfl rfl)
theorem dX1_groundLine_116 : decode cX1_groundLine 116 = .ok (.iconst 1, 1) := dk_4 (dk_at dksX1_groundLine_3 0 rfl rfl)
theorem dX1_groundLine_117 : decode cX1_groundLine 117 = .ok (.istore 4, 2) := dk_54 4 (dk_at dksX1_groundLine_3 1 rfl rfl)
theorem dX1_groundLine_119 : decode cX1_groundLine 119 = .ok (.goto 92, 3) := dk_167 0 92 (dk_at dksX1_groundLine_3 3 rfl rfl)
theorem dX1_groundLine_122 : decode cX1_groundLine 122 = .ok (.aload_n 3, 1) := dk_45 (dk_at dksX1_groundLine_3 6 rfl rfl)
theorem dX1_groundLine_123 : decode cX1_groundLine 123 = .ok (.ldc 206, 2) := dk_18 206 (dk_at dksX1_groundLine_3 7 rfl rfl)
theorem dX1_groundLine_125 : decode cX1_groundLine 125 = .ok (.invokevirtual 90, 3) := dk_182 0 90 (dk_at dksX1_groundLine_3 9 rfl rfl)
theorem dX1_groundLine_128 : decode cX1_groundLine 128 = .ok (.ifCond .eq 83, 3) := dk_153 0 83 (dk_at dksX1_groundLine_3 12 rfl rfl)
theorem dX1_groundLine_131 : decode cX1_groundLine 131 = .ok (.iconst 2, 1) := dk_5 (dk_at dksX1_groundLine_3 15 rfl rfl)
theorem dX1_groundLine_132 : decode cX1_groundLine 132 = .ok (.istore 4, 2) := dk_54 4 (dk_at dksX1_groundLine_3 16 rfl rfl)
theorem dX1_groundLine_134 : decode cX1_groundLine 134 = .ok (.goto 77, 3) := dk_167 0 77 (dk_at dksX1_groundLine_3 18 rfl rfl)
theorem dX1_groundLine_137 : decode cX1_groundLine 137 = .ok (.aload_n 3, 1) := dk_45 (dk_at dksX1_groundLine_3 21 rfl rfl)
theorem dX1_groundLine_138 : decode cX1_groundLine 138 = .ok (.ldc 207, 2) := dk_18 207 (dk_at dksX1_groundLine_3 22 rfl rfl)
theorem dX1_groundLine_140 : decode cX1_groundLine 140 = .ok (.invokevirtual 90, 3) := dk_182 0 90 (dk_at dksX1_groundLine_4 0 rfl rfl)
theorem dX1_groundLine_143 : decode cX1_groundLine 143 = .ok (.ifCond .eq 68, 3) := dk_153 0 68 (dk_at dksX1_groundLine_4 3 rfl rfl)
theorem dX1_groundLine_146 : decode cX1_groundLine 146 = .ok (.iconst 3, 1) := dk_6 (dk_at dksX1_groundLine_4 6 rfl rfl)
theorem dX1_groundLine_147 : decode cX1_groundLine 147 = .ok (.istore 4, 2) := dk_54 4 (dk_at dksX1_groundLine_4 7 rfl rfl)
theorem dX1_groundLine_149 : decode cX1_groundLine 149 = .ok (.goto 62, 3) := dk_167 0 62 (dk_at dksX1_groundLine_4 9 rfl rfl)
theorem dX1_groundLine_152 : decode cX1_groundLine 152 = .ok (.aload_n 3, 1) := dk_45 (dk_at dksX1_groundLine_4 12 rfl rfl)
theorem dX1_groundLine_153 : decode cX1_groundLine 153 = .ok (.ldc 208, 2) := dk_18 208 (dk_at dksX1_groundLine_4 13 rfl rfl)
theorem dX1_groundLine_155 : decode cX1_groundLine 155 = .ok (.invokevirtual 90, 3) := dk_182 0 90 (dk_at dksX1_groundLine_4 15 rfl rfl)
theorem dX1_groundLine_158 : decode cX1_groundLine 158 = .ok (.ifCond .eq 53, 3) := dk_153 0 53 (dk_at dksX1_groundLine_4 18 rfl rfl)
theorem dX1_groundLine_161 : decode cX1_groundLine 161 = .ok (.iconst 4, 1) := dk_7 (dk_at dksX1_groundLine_4 21 rfl rfl)
theorem dX1_groundLine_162 : decode cX1_groundLine 162 = .ok (.istore 4, 2) := dk_54 4 (dk_at dksX1_groundLine_4 22 rfl rfl)
theorem dX1_groundLine_164 : decode cX1_groundLine 164 = .ok (.goto 47, 3) := dk_167 0 47 (dk_at dksX1_groundLine_5 0 rfl rfl)
theorem dX1_groundLine_167 : decode cX1_groundLine 167 = .ok (.aload_n 3, 1) := dk_45 (dk_at dksX1_groundLine_5 3 rfl rfl)
theorem dX1_groundLine_168 : decode cX1_groundLine 168 = .ok (.ldc 210, 2) := dk_18 210 (dk_at dksX1_groundLine_5 4 rfl rfl)
theorem dX1_groundLine_170 : decode cX1_groundLine 170 = .ok (.invokevirtual 90, 3) := dk_182 0 90 (dk_at dksX1_groundLine_5 6 rfl rfl)
theorem dX1_groundLine_173 : decode cX1_groundLine 173 = .ok (.ifCond .eq 38, 3) := dk_153 0 38 (dk_at dksX1_groundLine_5 9 rfl rfl)
theorem dX1_groundLine_176 : decode cX1_groundLine 176 = .ok (.iconst 5, 1) := dk_8 (dk_at dksX1_groundLine_5 12 rfl rfl)
theorem dX1_groundLine_177 : decode cX1_groundLine 177 = .ok (.istore 4, 2) := dk_54 4 (dk_at dksX1_groundLine_5 13 rfl rfl)
theorem dX1_groundLine_179 : decode cX1_groundLine 179 = .ok (.goto 32, 3) := dk_167 0 32 (dk_at dksX1_groundLine_5 15 rfl rfl)
theorem dX1_groundLine_182 : decode cX1_groundLine 182 = .ok (.aload_n 3, 1) := dk_45 (dk_at dksX1_groundLine_5 18 rfl rfl)
theorem dX1_groundLine_183 : decode cX1_groundLine 183 = .ok (.ldc 212, 2) := dk_18 212 (dk_at dksX1_groundLine_5 19 rfl rfl)
theorem dX1_groundLine_185 : decode cX1_groundLine 185 = .ok (.invokevirtual 90, 3) := dk_182 0 90 (dk_at dksX1_groundLine_5 21 rfl rfl)
theorem dX1_groundLine_188 : decode cX1_groundLine 188 = .ok (.ifCond .eq 23, 3) := dk_153 0 23 (dk_at dksX1_groundLine_6 0 rfl rfl)
theorem dX1_groundLine_191 : decode cX1_groundLine 191 = .ok (.bipush 6, 2) := dk_16 6 (dk_at dksX1_groundLine_6 3 rfl rfl)
theorem dX1_groundLine_193 : decode cX1_groundLine 193 = .ok (.istore 4, 2) := dk_54 4 (dk_at dksX1_groundLine_6 5 rfl rfl)
theorem dX1_groundLine_195 : decode cX1_groundLine 195 = .ok (.goto 16, 3) := dk_167 0 16 (dk_at dksX1_groundLine_6 7 rfl rfl)
theorem dX1_groundLine_198 : decode cX1_groundLine 198 = .ok (.aload_n 3, 1) := dk_45 (dk_at dksX1_groundLine_6 10 rfl rfl)
theorem dX1_groundLine_199 : decode cX1_groundLine 199 = .ok (.ldc 213, 2) := dk_18 213 (dk_at dksX1_groundLine_6 11 rfl rfl)
theorem dX1_groundLine_201 : decode cX1_groundLine 201 = .ok (.invokevirtual 90, 3) := dk_182 0 90 (dk_at dksX1_groundLine_6 13 rfl rfl)
theorem dX1_groundLine_204 : decode cX1_groundLine 204 = .ok (.ifCond .eq 7, 3) := dk_153 0 7 (dk_at dksX1_groundLine_6 16 rfl rfl)
theorem dX1_groundLine_207 : decode cX1_groundLine 207 = .ok (.bipush 7, 2) := dk_16 7 (dk_at dksX1_groundLine_6 19 rfl rfl)
theorem dX1_groundLine_209 : decode cX1_groundLine 209 = .ok (.istore 4, 2) := dk_54 4 (dk_at dksX1_groundLine_6 21 rfl rfl)
theorem dX1_groundLine_211 : decode cX1_groundLine 211 = .ok (.iload 4, 2) := dk_21 4 (dk_at dksX1_groundLine_7 0 rfl rfl)
theorem dX1_groundLine_213 : decode cX1_groundLine 213 = .ok (.tableswitch 152 0 7 #[47, 53, 59, 84, 109, 121, 134, 143], 47) := by decide +kernel
theorem dX1_groundLine_260 : decode cX1_groundLine 260 = .ok (.aload_n 0, 1) := dk_42 (dk_at dksX1_groundLine_9 0 rfl rfl)
theorem dX1_groundLine_261 : decode cX1_groundLine 261 = .ok (.aload_n 1, 1) := dk_43 (dk_at dksX1_groundLine_9 1 rfl rfl)
theorem dX1_groundLine_262 : decode cX1_groundLine 262 = .ok (.invokevirtual 215, 3) := dk_182 0 215 (dk_at dksX1_groundLine_9 2 rfl rfl)
theorem dX1_groundLine_265 : decode cX1_groundLine 265 = .ok (.return_, 1) := dk_177 (dk_at dksX1_groundLine_9 5 rfl rfl)
theorem dX1_groundLine_266 : decode cX1_groundLine 266 = .ok (.aload_n 0, 1) := dk_42 (dk_at dksX1_groundLine_9 6 rfl rfl)
theorem dX1_groundLine_267 : decode cX1_groundLine 267 = .ok (.aload_n 1, 1) := dk_43 (dk_at dksX1_groundLine_9 7 rfl rfl)
theorem dX1_groundLine_268 : decode cX1_groundLine 268 = .ok (.invokevirtual 219, 3) := dk_182 0 219 (dk_at dksX1_groundLine_9 8 rfl rfl)
theorem dX1_groundLine_271 : decode cX1_groundLine 271 = .ok (.return_, 1) := dk_177 (dk_at dksX1_groundLine_9 11 rfl rfl)
theorem dX1_groundLine_272 : decode cX1_groundLine 272 = .ok (.aload_n 0, 1) := dk_42 (dk_at dksX1_groundLine_9 12 rfl rfl)
theorem dX1_groundLine_273 : decode cX1_groundLine 273 = .ok (.aload_n 1, 1) := dk_43 (dk_at dksX1_groundLine_9 13 rfl rfl)
theorem dX1_groundLine_274 : decode cX1_groundLine 274 = .ok (.getfield 155, 3) := dk_180 0 155 (dk_at dksX1_groundLine_9 14 rfl rfl)
theorem dX1_groundLine_277 : decode cX1_groundLine 277 = .ok (.aload_n 2, 1) := dk_44 (dk_at dksX1_groundLine_9 17 rfl rfl)
theorem dX1_groundLine_278 : decode cX1_groundLine 278 = .ok (.iconst 0, 1) := dk_3 (dk_at dksX1_groundLine_9 18 rfl rfl)
theorem dX1_groundLine_279 : decode cX1_groundLine 279 = .ok (.aload_n 1, 1) := dk_43 (dk_at dksX1_groundLine_9 19 rfl rfl)
theorem dX1_groundLine_280 : decode cX1_groundLine 280 = .ok (.getfield 132, 3) := dk_180 0 132 (dk_at dksX1_groundLine_9 20 rfl rfl)
theorem dX1_groundLine_283 : decode cX1_groundLine 283 = .ok (.iconst 1, 1) := dk_4 (dk_at dksX1_groundLine_9 23 rfl rfl)
theorem dX1_groundLine_284 : decode cX1_groundLine 284 = .ok (.isub, 1) := dk_100 (dk_at dksX1_groundLine_10 0 rfl rfl)
theorem dX1_groundLine_285 : decode cX1_groundLine 285 = .ok (.invokevirtual 104, 3) := dk_182 0 104 (dk_at dksX1_groundLine_10 1 rfl rfl)
theorem dX1_groundLine_288 : decode cX1_groundLine 288 = .ok (.aaload, 1) := dk_50 (dk_at dksX1_groundLine_10 4 rfl rfl)
theorem dX1_groundLine_289 : decode cX1_groundLine 289 = .ok (.aload_n 1, 1) := dk_43 (dk_at dksX1_groundLine_10 5 rfl rfl)
theorem dX1_groundLine_290 : decode cX1_groundLine 290 = .ok (.getfield 168, 3) := dk_180 0 168 (dk_at dksX1_groundLine_10 6 rfl rfl)
theorem dX1_groundLine_293 : decode cX1_groundLine 293 = .ok (.invokevirtual 222, 3) := dk_182 0 222 (dk_at dksX1_groundLine_10 9 rfl rfl)
theorem dX1_groundLine_296 : decode cX1_groundLine 296 = .ok (.return_, 1) := dk_177 (dk_at dksX1_groundLine_10 12 rfl rfl)
theorem dX1_groundLine_297 : decode cX1_groundLine 297 = .ok (.aload_n 0, 1) := dk_42 (dk_at dksX1_groundLine_10 13 rfl rfl)
theorem dX1_groundLine_298 : decode cX1_groundLine 298 = .ok (.aload_n 1, 1) := dk_43 (dk_at dksX1_groundLine_10 14 rfl rfl)
theorem dX1_groundLine_299 : decode cX1_groundLine 299 = .ok (.getfield 165, 3) := dk_180 0 165 (dk_at dksX1_groundLine_10 15 rfl rfl)
theorem dX1_groundLine_302 : decode cX1_groundLine 302 = .ok (.aload_n 2, 1) := dk_44 (dk_at dksX1_groundLine_10 18 rfl rfl)
theorem dX1_groundLine_303 : decode cX1_groundLine 303 = .ok (.iconst 0, 1) := dk_3 (dk_at dksX1_groundLine_10 19 rfl rfl)
theorem dX1_groundLine_304 : decode cX1_groundLine 304 = .ok (.aload_n 1, 1) := dk_43 (dk_at dksX1_groundLine_10 20 rfl rfl)
theorem dX1_groundLine_305 : decode cX1_groundLine 305 = .ok (.getfield 168, 3) := dk_180 0 168 (dk_at dksX1_groundLine_10 21 rfl rfl)
theorem dX1_groundLine_308 : decode cX1_groundLine 308 = .ok (.iconst 1, 1) := dk_4 (dk_at dksX1_groundLine_11 0 rfl rfl)
theorem dX1_groundLine_309 : decode cX1_groundLine 309 = .ok (.isub, 1) := dk_100 (dk_at dksX1_groundLine_11 1 rfl rfl)
theorem dX1_groundLine_310 : decode cX1_groundLine 310 = .ok (.invokevirtual 104, 3) := dk_182 0 104 (dk_at dksX1_groundLine_11 2 rfl rfl)
theorem dX1_groundLine_313 : decode cX1_groundLine 313 = .ok (.aaload, 1) := dk_50 (dk_at dksX1_groundLine_11 5 rfl rfl)
theorem dX1_groundLine_314 : decode cX1_groundLine 314 = .ok (.aload_n 1, 1) := dk_43 (dk_at dksX1_groundLine_11 6 rfl rfl)
theorem dX1_groundLine_315 : decode cX1_groundLine 315 = .ok (.getfield 132, 3) := dk_180 0 132 (dk_at dksX1_groundLine_11 7 rfl rfl)
theorem dX1_groundLine_318 : decode cX1_groundLine 318 = .ok (.invokevirtual 222, 3) := dk_182 0 222 (dk_at dksX1_groundLine_11 10 rfl rfl)
theorem dX1_groundLine_321 : decode cX1_groundLine 321 = .ok (.return_, 1) := dk_177 (dk_at dksX1_groundLine_11 13 rfl rfl)
theorem dX1_groundLine_322 : decode cX1_groundLine 322 = .ok (.aload_n 1, 1) := dk_43 (dk_at dksX1_groundLine_11 14 rfl rfl)
theorem dX1_groundLine_323 : decode cX1_groundLine 323 = .ok (.aload_n 2, 1) := dk_44 (dk_at dksX1_groundLine_11 15 rfl rfl)
theorem dX1_groundLine_324 : decode cX1_groundLine 324 = .ok (.iconst 0, 1) := dk_3 (dk_at dksX1_groundLine_11 16 rfl rfl)
theorem dX1_groundLine_325 : decode cX1_groundLine 325 = .ok (.bipush 100, 2) := dk_16 100 (dk_at dksX1_groundLine_11 17 rfl rfl)
theorem dX1_groundLine_327 : decode cX1_groundLine 327 = .ok (.invokevirtual 104, 3) := dk_182 0 104 (dk_at dksX1_groundLine_11 19 rfl rfl)
theorem dX1_groundLine_330 : decode cX1_groundLine 330 = .ok (.putfield 225, 3) := dk_181 0 225 (dk_at dksX1_groundLine_12 0 rfl rfl)
theorem dX1_groundLine_333 : decode cX1_groundLine 333 = .ok (.return_, 1) := dk_177 (dk_at dksX1_groundLine_12 3 rfl rfl)
theorem dX1_groundLine_334 : decode cX1_groundLine 334 = .ok (.aload_n 1, 1) := dk_43 (dk_at dksX1_groundLine_12 4 rfl rfl)
theorem dX1_groundLine_335 : decode cX1_groundLine 335 = .ok (.aload_n 2, 1) := dk_44 (dk_at dksX1_groundLine_12 5 rfl rfl)
theorem dX1_groundLine_336 : decode cX1_groundLine 336 = .ok (.iconst 0, 1) := dk_3 (dk_at dksX1_groundLine_12 6 rfl rfl)
theorem dX1_groundLine_337 : decode cX1_groundLine 337 = .ok (.sipush 999, 3) := dk_17 3 231 (dk_at dksX1_groundLine_12 7 rfl rfl)
theorem dX1_groundLine_340 : decode cX1_groundLine 340 = .ok (.invokevirtual 104, 3) := dk_182 0 104 (dk_at dksX1_groundLine_12 10 rfl rfl)
theorem dX1_groundLine_343 : decode cX1_groundLine 343 = .ok (.putfield 227, 3) := dk_181 0 227 (dk_at dksX1_groundLine_12 13 rfl rfl)
theorem dX1_groundLine_346 : decode cX1_groundLine 346 = .ok (.return_, 1) := dk_177 (dk_at dksX1_groundLine_12 16 rfl rfl)
theorem dX1_groundLine_347 : decode cX1_groundLine 347 = .ok (.aload_n 1, 1) := dk_43 (dk_at dksX1_groundLine_12 17 rfl rfl)
theorem dX1_groundLine_348 : decode cX1_groundLine 348 = .ok (.aload_n 0, 1) := dk_42 (dk_at dksX1_groundLine_12 18 rfl rfl)
theorem dX1_groundLine_349 : decode cX1_groundLine 349 = .ok (.invokevirtual 186, 3) := dk_182 0 186 (dk_at dksX1_groundLine_12 19 rfl rfl)
theorem dX1_groundLine_352 : decode cX1_groundLine 352 = .ok (.putfield 229, 3) := dk_181 0 229 (dk_at dksX1_groundLine_13 0 rfl rfl)
theorem dX1_groundLine_355 : decode cX1_groundLine 355 = .ok (.return_, 1) := dk_177 (dk_at dksX1_groundLine_13 3 rfl rfl)
theorem dX1_groundLine_356 : decode cX1_groundLine 356 = .ok (.aload_n 1, 1) := dk_43 (dk_at dksX1_groundLine_13 4 rfl rfl)
theorem dX1_groundLine_357 : decode cX1_groundLine 357 = .ok (.aload_n 0, 1) := dk_42 (dk_at dksX1_groundLine_13 5 rfl rfl)
theorem dX1_groundLine_358 : decode cX1_groundLine 358 = .ok (.invokevirtual 186, 3) := dk_182 0 186 (dk_at dksX1_groundLine_13 6 rfl rfl)
theorem dX1_groundLine_361 : decode cX1_groundLine 361 = .ok (.putfield 231, 3) := dk_181 0 231 (dk_at dksX1_groundLine_13 9 rfl rfl)
theorem dX1_groundLine_364 : decode cX1_groundLine 364 = .ok (.return_, 1) := dk_177 (dk_at dksX1_groundLine_13 12 rfl rfl)
theorem dX1_groundLine_365 : decode cX1_groundLine 365 = .ok (.aload_n 2, 1) := dk_44 (dk_at dksX1_groundLine_13 13 rfl rfl)
theorem dX1_groundLine_366 : decode cX1_groundLine 366 = .ok (.invokevirtual 96, 3) := dk_182 0 96 (dk_at dksX1_groundLine_13 14 rfl rfl)
theorem dX1_groundLine_369 : decode cX1_groundLine 369 = .ok (.athrow, 1) := dk_191 (dk_at dksX1_groundLine_13 17 rfl rfl)
abbrev cX1_aHost : ByteArray := prog_1_method_10_code
def yX1_aHost : MethodName := ⟨RX1, "aHost", "(LVisitingHours$World;)V"⟩
def dkwX1_aHost_4 : List UInt8 := [167, 255, 238, 43, 89, 180, 0, 132, 4, 96, 181, 0, 132, 177]
abbrev dktX1_aHost_4 : List UInt8 := dkwX1_aHost_4 ++ []
def dkwX1_aHost_3 : List UInt8 := [184, 0, 159, 3, 62, 29, 16, 8, 162, 0, 18, 43, 180, 0, 165, 29, 50, 28, 8, 79, 132, 3, 1]
abbrev dktX1_aHost_3 : List UInt8 := dkwX1_aHost_3 ++ dktX1_aHost_4
def dkwX1_aHost_2 : List UInt8 := [28, 3, 79, 43, 180, 0, 148, 28, 3, 79, 43, 28, 182, 0, 151, 43, 180, 0, 155, 28, 50, 8]
abbrev dktX1_aHost_2 : List UInt8 := dkwX1_aHost_2 ++ dktX1_aHost_3
def dkwX1_aHost_1 : List UInt8 := [42, 18, 138, 3, 16, 9, 182, 0, 110, 79, 43, 180, 0, 139, 28, 42, 182, 0, 142, 79, 43, 180, 0, 145]
abbrev dktX1_aHost_1 : List UInt8 := dkwX1_aHost_1 ++ dktX1_aHost_2
def dkwX1_aHost_0 : List UInt8 := [43, 180, 0, 132, 61, 28, 16, 8, 160, 0, 11, 42, 180, 0, 25, 182, 0, 96, 191, 43, 180, 0, 135, 28]
abbrev dktX1_aHost_0 : List UInt8 := dkwX1_aHost_0 ++ dktX1_aHost_1
theorem dksX1_aHost_0 : cX1_aHost.data.toList.drop 0 = dktX1_aHost_0 := by decide +kernel
theorem dksX1_aHost_1 : cX1_aHost.data.toList.drop 24 = dktX1_aHost_1 := dk_seg dksX1_aHost_0 24 rfl rfl
theorem dksX1_aHost_2 : cX1_aHost.data.toList.drop 48 = dktX1_aHost_2 := dk_seg dksX1_aHost_1 24 rfl rfl
theorem dksX1_aHost_3 : cX1_aHost.data.toList.drop 70 = dktX1_aHost_3 := dk_seg dksX1_aHost_2 22 rfl rfl
theorem dksX1_aHost_4 : cX1_aHost.data.toList.drop 93 = dktX1_aHost_4 := dk_seg dksX1_aHost_3 23 rfl rfl
theorem dX1_aHost_0 : decode cX1_aHost 0 = .ok (.aload_n 1, 1) := dk_43 (dk_at dksX1_aHost_0 0 rfl rfl)
theorem dX1_aHost_1 : decode cX1_aHost 1 = .ok (.getfield 132, 3) := dk_180 0 132 (dk_at dksX1_aHost_0 1 rfl rfl)
theorem dX1_aHost_4 : decode cX1_aHost 4 = .ok (.istore_n 2, 1) := dk_61 (dk_at dksX1_aHost_0 4 rfl rfl)
theorem dX1_aHost_5 : decode cX1_aHost 5 = .ok (.iload_n 2, 1) := dk_28 (dk_at dksX1_aHost_0 5 rfl rfl)
theorem dX1_aHost_6 : decode cX1_aHost 6 = .ok (.bipush 8, 2) := dk_16 8 (dk_at dksX1_aHost_0 6 rfl rfl)
theorem dX1_aHost_8 : decode cX1_aHost 8 = .ok (.if_icmp .ne 11, 3) := dk_160 0 11 (dk_at dksX1_aHost_0 8 rfl rfl)
theorem dX1_aHost_11 : decode cX1_aHost 11 = .ok (.aload_n 0, 1) := dk_42 (dk_at dksX1_aHost_0 11 rfl rfl)
theorem dX1_aHost_12 : decode cX1_aHost 12 = .ok (.getfield 25, 3) := dk_180 0 25 (dk_at dksX1_aHost_0 12 rfl rfl)
theorem dX1_aHost_15 : decode cX1_aHost 15 = .ok (.invokevirtual 96, 3) := dk_182 0 96 (dk_at dksX1_aHost_0 15 rfl rfl)
theorem dX1_aHost_18 : decode cX1_aHost 18 = .ok (.athrow, 1) := dk_191 (dk_at dksX1_aHost_0 18 rfl rfl)
theorem dX1_aHost_19 : decode cX1_aHost 19 = .ok (.aload_n 1, 1) := dk_43 (dk_at dksX1_aHost_0 19 rfl rfl)
theorem dX1_aHost_20 : decode cX1_aHost 20 = .ok (.getfield 135, 3) := dk_180 0 135 (dk_at dksX1_aHost_0 20 rfl rfl)
theorem dX1_aHost_23 : decode cX1_aHost 23 = .ok (.iload_n 2, 1) := dk_28 (dk_at dksX1_aHost_0 23 rfl rfl)
theorem dX1_aHost_24 : decode cX1_aHost 24 = .ok (.aload_n 0, 1) := dk_42 (dk_at dksX1_aHost_1 0 rfl rfl)
theorem dX1_aHost_25 : decode cX1_aHost 25 = .ok (.ldc 138, 2) := dk_18 138 (dk_at dksX1_aHost_1 1 rfl rfl)
theorem dX1_aHost_27 : decode cX1_aHost 27 = .ok (.iconst 0, 1) := dk_3 (dk_at dksX1_aHost_1 3 rfl rfl)
theorem dX1_aHost_28 : decode cX1_aHost 28 = .ok (.bipush 9, 2) := dk_16 9 (dk_at dksX1_aHost_1 4 rfl rfl)
theorem dX1_aHost_30 : decode cX1_aHost 30 = .ok (.invokevirtual 110, 3) := dk_182 0 110 (dk_at dksX1_aHost_1 6 rfl rfl)
theorem dX1_aHost_33 : decode cX1_aHost 33 = .ok (.iastore, 1) := dk_79 (dk_at dksX1_aHost_1 9 rfl rfl)
theorem dX1_aHost_34 : decode cX1_aHost 34 = .ok (.aload_n 1, 1) := dk_43 (dk_at dksX1_aHost_1 10 rfl rfl)
theorem dX1_aHost_35 : decode cX1_aHost 35 = .ok (.getfield 139, 3) := dk_180 0 139 (dk_at dksX1_aHost_1 11 rfl rfl)
theorem dX1_aHost_38 : decode cX1_aHost 38 = .ok (.iload_n 2, 1) := dk_28 (dk_at dksX1_aHost_1 14 rfl rfl)
theorem dX1_aHost_39 : decode cX1_aHost 39 = .ok (.aload_n 0, 1) := dk_42 (dk_at dksX1_aHost_1 15 rfl rfl)
theorem dX1_aHost_40 : decode cX1_aHost 40 = .ok (.invokevirtual 142, 3) := dk_182 0 142 (dk_at dksX1_aHost_1 16 rfl rfl)
theorem dX1_aHost_43 : decode cX1_aHost 43 = .ok (.iastore, 1) := dk_79 (dk_at dksX1_aHost_1 19 rfl rfl)
theorem dX1_aHost_44 : decode cX1_aHost 44 = .ok (.aload_n 1, 1) := dk_43 (dk_at dksX1_aHost_1 20 rfl rfl)
theorem dX1_aHost_45 : decode cX1_aHost 45 = .ok (.getfield 145, 3) := dk_180 0 145 (dk_at dksX1_aHost_1 21 rfl rfl)
theorem dX1_aHost_48 : decode cX1_aHost 48 = .ok (.iload_n 2, 1) := dk_28 (dk_at dksX1_aHost_2 0 rfl rfl)
theorem dX1_aHost_49 : decode cX1_aHost 49 = .ok (.iconst 0, 1) := dk_3 (dk_at dksX1_aHost_2 1 rfl rfl)
theorem dX1_aHost_50 : decode cX1_aHost 50 = .ok (.iastore, 1) := dk_79 (dk_at dksX1_aHost_2 2 rfl rfl)
theorem dX1_aHost_51 : decode cX1_aHost 51 = .ok (.aload_n 1, 1) := dk_43 (dk_at dksX1_aHost_2 3 rfl rfl)
theorem dX1_aHost_52 : decode cX1_aHost 52 = .ok (.getfield 148, 3) := dk_180 0 148 (dk_at dksX1_aHost_2 4 rfl rfl)
theorem dX1_aHost_55 : decode cX1_aHost 55 = .ok (.iload_n 2, 1) := dk_28 (dk_at dksX1_aHost_2 7 rfl rfl)
theorem dX1_aHost_56 : decode cX1_aHost 56 = .ok (.iconst 0, 1) := dk_3 (dk_at dksX1_aHost_2 8 rfl rfl)
theorem dX1_aHost_57 : decode cX1_aHost 57 = .ok (.iastore, 1) := dk_79 (dk_at dksX1_aHost_2 9 rfl rfl)
theorem dX1_aHost_58 : decode cX1_aHost 58 = .ok (.aload_n 1, 1) := dk_43 (dk_at dksX1_aHost_2 10 rfl rfl)
theorem dX1_aHost_59 : decode cX1_aHost 59 = .ok (.iload_n 2, 1) := dk_28 (dk_at dksX1_aHost_2 11 rfl rfl)
theorem dX1_aHost_60 : decode cX1_aHost 60 = .ok (.invokevirtual 151, 3) := dk_182 0 151 (dk_at dksX1_aHost_2 12 rfl rfl)
theorem dX1_aHost_63 : decode cX1_aHost 63 = .ok (.aload_n 1, 1) := dk_43 (dk_at dksX1_aHost_2 15 rfl rfl)
theorem dX1_aHost_64 : decode cX1_aHost 64 = .ok (.getfield 155, 3) := dk_180 0 155 (dk_at dksX1_aHost_2 16 rfl rfl)
theorem dX1_aHost_67 : decode cX1_aHost 67 = .ok (.iload_n 2, 1) := dk_28 (dk_at dksX1_aHost_2 19 rfl rfl)
theorem dX1_aHost_68 : decode cX1_aHost 68 = .ok (.aaload, 1) := dk_50 (dk_at dksX1_aHost_2 20 rfl rfl)
theorem dX1_aHost_69 : decode cX1_aHost 69 = .ok (.iconst 5, 1) := dk_8 (dk_at dksX1_aHost_2 21 rfl rfl)
theorem dX1_aHost_70 : decode cX1_aHost 70 = .ok (.invokestatic 159, 3) := dk_184 0 159 (dk_at dksX1_aHost_3 0 rfl rfl)
theorem dX1_aHost_73 : decode cX1_aHost 73 = .ok (.iconst 0, 1) := dk_3 (dk_at dksX1_aHost_3 3 rfl rfl)
theorem dX1_aHost_74 : decode cX1_aHost 74 = .ok (.istore_n 3, 1) := dk_62 (dk_at dksX1_aHost_3 4 rfl rfl)
theorem dX1_aHost_75 : decode cX1_aHost 75 = .ok (.iload_n 3, 1) := dk_29 (dk_at dksX1_aHost_3 5 rfl rfl)
theorem dX1_aHost_76 : decode cX1_aHost 76 = .ok (.bipush 8, 2) := dk_16 8 (dk_at dksX1_aHost_3 6 rfl rfl)
theorem dX1_aHost_78 : decode cX1_aHost 78 = .ok (.if_icmp .ge 18, 3) := dk_162 0 18 (dk_at dksX1_aHost_3 8 rfl rfl)
theorem dX1_aHost_81 : decode cX1_aHost 81 = .ok (.aload_n 1, 1) := dk_43 (dk_at dksX1_aHost_3 11 rfl rfl)
theorem dX1_aHost_82 : decode cX1_aHost 82 = .ok (.getfield 165, 3) := dk_180 0 165 (dk_at dksX1_aHost_3 12 rfl rfl)
theorem dX1_aHost_85 : decode cX1_aHost 85 = .ok (.iload_n 3, 1) := dk_29 (dk_at dksX1_aHost_3 15 rfl rfl)
theorem dX1_aHost_86 : decode cX1_aHost 86 = .ok (.aaload, 1) := dk_50 (dk_at dksX1_aHost_3 16 rfl rfl)
theorem dX1_aHost_87 : decode cX1_aHost 87 = .ok (.iload_n 2, 1) := dk_28 (dk_at dksX1_aHost_3 17 rfl rfl)
theorem dX1_aHost_88 : decode cX1_aHost 88 = .ok (.iconst 5, 1) := dk_8 (dk_at dksX1_aHost_3 18 rfl rfl)
theorem dX1_aHost_89 : decode cX1_aHost 89 = .ok (.iastore, 1) := dk_79 (dk_at dksX1_aHost_3 19 rfl rfl)
theorem dX1_aHost_90 : decode cX1_aHost 90 = .ok (.iinc 3 1, 3) := dk_132 3 1 (dk_at dksX1_aHost_3 20 rfl rfl)
theorem dX1_aHost_93 : decode cX1_aHost 93 = .ok (.goto (-18), 3) := dk_167 255 238 (dk_at dksX1_aHost_4 0 rfl rfl)
theorem dX1_aHost_96 : decode cX1_aHost 96 = .ok (.aload_n 1, 1) := dk_43 (dk_at dksX1_aHost_4 3 rfl rfl)
theorem dX1_aHost_97 : decode cX1_aHost 97 = .ok (.dup, 1) := dk_89 (dk_at dksX1_aHost_4 4 rfl rfl)
theorem dX1_aHost_98 : decode cX1_aHost 98 = .ok (.getfield 132, 3) := dk_180 0 132 (dk_at dksX1_aHost_4 5 rfl rfl)
theorem dX1_aHost_101 : decode cX1_aHost 101 = .ok (.iconst 1, 1) := dk_4 (dk_at dksX1_aHost_4 8 rfl rfl)
theorem dX1_aHost_102 : decode cX1_aHost 102 = .ok (.iadd, 1) := dk_96 (dk_at dksX1_aHost_4 9 rfl rfl)
theorem dX1_aHost_103 : decode cX1_aHost 103 = .ok (.putfield 132, 3) := dk_181 0 132 (dk_at dksX1_aHost_4 10 rfl rfl)
theorem dX1_aHost_106 : decode cX1_aHost 106 = .ok (.return_, 1) := dk_177 (dk_at dksX1_aHost_4 13 rfl rfl)
abbrev cX1_after : ByteArray := prog_1_method_7_code
def yX1_after : MethodName := ⟨RX1, "after", "(Ljava/lang/String;II)I"⟩
def dkwX1_after_0 : List UInt8 := [42, 43, 182, 0, 100, 42, 180, 0, 25, 28, 29, 182, 0, 104, 172]
abbrev dktX1_after_0 : List UInt8 := dkwX1_after_0 ++ []
theorem dksX1_after_0 : cX1_after.data.toList.drop 0 = dktX1_after_0 := by decide +kernel
theorem dX1_after_0 : decode cX1_after 0 = .ok (.aload_n 0, 1) := dk_42 (dk_at dksX1_after_0 0 rfl rfl)
theorem dX1_after_1 : decode cX1_after 1 = .ok (.aload_n 1, 1) := dk_43 (dk_at dksX1_after_0 1 rfl rfl)
theorem dX1_after_2 : decode cX1_after 2 = .ok (.invokevirtual 100, 3) := dk_182 0 100 (dk_at dksX1_after_0 2 rfl rfl)
theorem dX1_after_5 : decode cX1_after 5 = .ok (.aload_n 0, 1) := dk_42 (dk_at dksX1_after_0 5 rfl rfl)
theorem dX1_after_6 : decode cX1_after 6 = .ok (.getfield 25, 3) := dk_180 0 25 (dk_at dksX1_after_0 6 rfl rfl)
theorem dX1_after_9 : decode cX1_after 9 = .ok (.iload_n 2, 1) := dk_28 (dk_at dksX1_after_0 9 rfl rfl)
theorem dX1_after_10 : decode cX1_after 10 = .ok (.iload_n 3, 1) := dk_29 (dk_at dksX1_after_0 10 rfl rfl)
theorem dX1_after_11 : decode cX1_after 11 = .ok (.invokevirtual 104, 3) := dk_182 0 104 (dk_at dksX1_after_0 11 rfl rfl)
theorem dX1_after_14 : decode cX1_after 14 = .ok (.ireturn, 1) := dk_172 (dk_at dksX1_after_0 14 rfl rfl)
abbrev cX1_needs : ByteArray := prog_1_method_6_code
def yX1_needs : MethodName := ⟨RX1, "needs", "(Ljava/lang/String;)V"⟩
def dkwX1_needs_0 : List UInt8 := [42, 180, 0, 25, 182, 0, 86, 43, 182, 0, 90, 154, 0, 11, 42, 180, 0, 25, 182, 0, 96, 191, 177]
abbrev dktX1_needs_0 : List UInt8 := dkwX1_needs_0 ++ []
theorem dksX1_needs_0 : cX1_needs.data.toList.drop 0 = dktX1_needs_0 := by decide +kernel
theorem dX1_needs_0 : decode cX1_needs 0 = .ok (.aload_n 0, 1) := dk_42 (dk_at dksX1_needs_0 0 rfl rfl)
theorem dX1_needs_1 : decode cX1_needs 1 = .ok (.getfield 25, 3) := dk_180 0 25 (dk_at dksX1_needs_0 1 rfl rfl)
theorem dX1_needs_4 : decode cX1_needs 4 = .ok (.invokevirtual 86, 3) := dk_182 0 86 (dk_at dksX1_needs_0 4 rfl rfl)
theorem dX1_needs_7 : decode cX1_needs 7 = .ok (.aload_n 1, 1) := dk_43 (dk_at dksX1_needs_0 7 rfl rfl)
theorem dX1_needs_8 : decode cX1_needs 8 = .ok (.invokevirtual 90, 3) := dk_182 0 90 (dk_at dksX1_needs_0 8 rfl rfl)
theorem dX1_needs_11 : decode cX1_needs 11 = .ok (.ifCond .ne 11, 3) := dk_154 0 11 (dk_at dksX1_needs_0 11 rfl rfl)
theorem dX1_needs_14 : decode cX1_needs 14 = .ok (.aload_n 0, 1) := dk_42 (dk_at dksX1_needs_0 14 rfl rfl)
theorem dX1_needs_15 : decode cX1_needs 15 = .ok (.getfield 25, 3) := dk_180 0 25 (dk_at dksX1_needs_0 15 rfl rfl)
theorem dX1_needs_18 : decode cX1_needs 18 = .ok (.invokevirtual 96, 3) := dk_182 0 96 (dk_at dksX1_needs_0 18 rfl rfl)
theorem dX1_needs_21 : decode cX1_needs 21 = .ok (.athrow, 1) := dk_191 (dk_at dksX1_needs_0 21 rfl rfl)
theorem dX1_needs_22 : decode cX1_needs 22 = .ok (.return_, 1) := dk_177 (dk_at dksX1_needs_0 22 rfl rfl)
abbrev cX1_hoursTold : ByteArray := prog_1_method_8_code
def yX1_hoursTold : MethodName := ⟨RX1, "hoursTold", "()I"⟩
def dkwX1_hoursTold_1 : List UInt8 := [120, 4, 27, 120, 100, 172]
abbrev dktX1_hoursTold_1 : List UInt8 := dkwX1_hoursTold_1 ++ []
def dkwX1_hoursTold_0 : List UInt8 := [42, 18, 108, 3, 16, 7, 182, 0, 110, 60, 42, 18, 114, 27, 16, 7, 182, 0, 110, 61, 4, 28, 4, 96]
abbrev dktX1_hoursTold_0 : List UInt8 := dkwX1_hoursTold_0 ++ dktX1_hoursTold_1
theorem dksX1_hoursTold_0 : cX1_hoursTold.data.toList.drop 0 = dktX1_hoursTold_0 := by decide +kernel
theorem dksX1_hoursTold_1 : cX1_hoursTold.data.toList.drop 24 = dktX1_hoursTold_1 := dk_seg dksX1_hoursTold_0 24 rfl rfl
theorem dX1_hoursTold_0 : decode cX1_hoursTold 0 = .ok (.aload_n 0, 1) := dk_42 (dk_at dksX1_hoursTold_0 0 rfl rfl)
theorem dX1_hoursTold_1 : decode cX1_hoursTold 1 = .ok (.ldc 108, 2) := dk_18 108 (dk_at dksX1_hoursTold_0 1 rfl rfl)
theorem dX1_hoursTold_3 : decode cX1_hoursTold 3 = .ok (.iconst 0, 1) := dk_3 (dk_at dksX1_hoursTold_0 3 rfl rfl)
theorem dX1_hoursTold_4 : decode cX1_hoursTold 4 = .ok (.bipush 7, 2) := dk_16 7 (dk_at dksX1_hoursTold_0 4 rfl rfl)
theorem dX1_hoursTold_6 : decode cX1_hoursTold 6 = .ok (.invokevirtual 110, 3) := dk_182 0 110 (dk_at dksX1_hoursTold_0 6 rfl rfl)
theorem dX1_hoursTold_9 : decode cX1_hoursTold 9 = .ok (.istore_n 1, 1) := dk_60 (dk_at dksX1_hoursTold_0 9 rfl rfl)
theorem dX1_hoursTold_10 : decode cX1_hoursTold 10 = .ok (.aload_n 0, 1) := dk_42 (dk_at dksX1_hoursTold_0 10 rfl rfl)
theorem dX1_hoursTold_11 : decode cX1_hoursTold 11 = .ok (.ldc 114, 2) := dk_18 114 (dk_at dksX1_hoursTold_0 11 rfl rfl)
theorem dX1_hoursTold_13 : decode cX1_hoursTold 13 = .ok (.iload_n 1, 1) := dk_27 (dk_at dksX1_hoursTold_0 13 rfl rfl)
theorem dX1_hoursTold_14 : decode cX1_hoursTold 14 = .ok (.bipush 7, 2) := dk_16 7 (dk_at dksX1_hoursTold_0 14 rfl rfl)
theorem dX1_hoursTold_16 : decode cX1_hoursTold 16 = .ok (.invokevirtual 110, 3) := dk_182 0 110 (dk_at dksX1_hoursTold_0 16 rfl rfl)
theorem dX1_hoursTold_19 : decode cX1_hoursTold 19 = .ok (.istore_n 2, 1) := dk_61 (dk_at dksX1_hoursTold_0 19 rfl rfl)
theorem dX1_hoursTold_20 : decode cX1_hoursTold 20 = .ok (.iconst 1, 1) := dk_4 (dk_at dksX1_hoursTold_0 20 rfl rfl)
theorem dX1_hoursTold_21 : decode cX1_hoursTold 21 = .ok (.iload_n 2, 1) := dk_28 (dk_at dksX1_hoursTold_0 21 rfl rfl)
theorem dX1_hoursTold_22 : decode cX1_hoursTold 22 = .ok (.iconst 1, 1) := dk_4 (dk_at dksX1_hoursTold_0 22 rfl rfl)
theorem dX1_hoursTold_23 : decode cX1_hoursTold 23 = .ok (.iadd, 1) := dk_96 (dk_at dksX1_hoursTold_0 23 rfl rfl)
theorem dX1_hoursTold_24 : decode cX1_hoursTold 24 = .ok (.ishl, 1) := dk_120 (dk_at dksX1_hoursTold_1 0 rfl rfl)
theorem dX1_hoursTold_25 : decode cX1_hoursTold 25 = .ok (.iconst 1, 1) := dk_4 (dk_at dksX1_hoursTold_1 1 rfl rfl)
theorem dX1_hoursTold_26 : decode cX1_hoursTold 26 = .ok (.iload_n 1, 1) := dk_27 (dk_at dksX1_hoursTold_1 2 rfl rfl)
theorem dX1_hoursTold_27 : decode cX1_hoursTold 27 = .ok (.ishl, 1) := dk_120 (dk_at dksX1_hoursTold_1 3 rfl rfl)
theorem dX1_hoursTold_28 : decode cX1_hoursTold 28 = .ok (.isub, 1) := dk_100 (dk_at dksX1_hoursTold_1 4 rfl rfl)
theorem dX1_hoursTold_29 : decode cX1_hoursTold 29 = .ok (.ireturn, 1) := dk_172 (dk_at dksX1_hoursTold_1 5 rfl rfl)
abbrev cX1_aGuest : ByteArray := prog_1_method_11_code
def yX1_aGuest : MethodName := ⟨RX1, "aGuest", "(LVisitingHours$World;)V"⟩
def dkwX1_aGuest_4 : List UInt8 := [8, 79, 132, 3, 1, 167, 255, 238, 43, 89, 180, 0, 168, 4, 96, 181, 0, 168, 177]
abbrev dktX1_aGuest_4 : List UInt8 := dkwX1_aGuest_4 ++ []
def dkwX1_aGuest_3 : List UInt8 := [180, 0, 165, 28, 50, 8, 184, 0, 159, 3, 62, 29, 16, 8, 162, 0, 18, 43, 180, 0, 155, 29, 50, 28]
abbrev dktX1_aGuest_3 : List UInt8 := dkwX1_aGuest_3 ++ dktX1_aGuest_4
def dkwX1_aGuest_2 : List UInt8 := [42, 180, 0, 25, 18, 181, 182, 0, 182, 153, 0, 10, 42, 182, 0, 186, 167, 0, 4, 3, 79, 43]
abbrev dktX1_aGuest_2 : List UInt8 := dkwX1_aGuest_2 ++ dktX1_aGuest_3
def dkwX1_aGuest_1 : List UInt8 := [42, 18, 174, 4, 7, 182, 0, 110, 79, 43, 180, 0, 175, 28, 42, 182, 0, 142, 79, 43, 180, 0, 178, 28]
abbrev dktX1_aGuest_1 : List UInt8 := dkwX1_aGuest_1 ++ dktX1_aGuest_2
def dkwX1_aGuest_0 : List UInt8 := [43, 180, 0, 168, 61, 28, 16, 8, 160, 0, 11, 42, 180, 0, 25, 182, 0, 96, 191, 43, 180, 0, 171, 28]
abbrev dktX1_aGuest_0 : List UInt8 := dkwX1_aGuest_0 ++ dktX1_aGuest_1
theorem dksX1_aGuest_0 : cX1_aGuest.data.toList.drop 0 = dktX1_aGuest_0 := by decide +kernel
theorem dksX1_aGuest_1 : cX1_aGuest.data.toList.drop 24 = dktX1_aGuest_1 := dk_seg dksX1_aGuest_0 24 rfl rfl
theorem dksX1_aGuest_2 : cX1_aGuest.data.toList.drop 48 = dktX1_aGuest_2 := dk_seg dksX1_aGuest_1 24 rfl rfl
theorem dksX1_aGuest_3 : cX1_aGuest.data.toList.drop 70 = dktX1_aGuest_3 := dk_seg dksX1_aGuest_2 22 rfl rfl
theorem dksX1_aGuest_4 : cX1_aGuest.data.toList.drop 94 = dktX1_aGuest_4 := dk_seg dksX1_aGuest_3 24 rfl rfl
theorem dX1_aGuest_0 : decode cX1_aGuest 0 = .ok (.aload_n 1, 1) := dk_43 (dk_at dksX1_aGuest_0 0 rfl rfl)
theorem dX1_aGuest_1 : decode cX1_aGuest 1 = .ok (.getfield 168, 3) := dk_180 0 168 (dk_at dksX1_aGuest_0 1 rfl rfl)
theorem dX1_aGuest_4 : decode cX1_aGuest 4 = .ok (.istore_n 2, 1) := dk_61 (dk_at dksX1_aGuest_0 4 rfl rfl)
theorem dX1_aGuest_5 : decode cX1_aGuest 5 = .ok (.iload_n 2, 1) := dk_28 (dk_at dksX1_aGuest_0 5 rfl rfl)
theorem dX1_aGuest_6 : decode cX1_aGuest 6 = .ok (.bipush 8, 2) := dk_16 8 (dk_at dksX1_aGuest_0 6 rfl rfl)
theorem dX1_aGuest_8 : decode cX1_aGuest 8 = .ok (.if_icmp .ne 11, 3) := dk_160 0 11 (dk_at dksX1_aGuest_0 8 rfl rfl)
theorem dX1_aGuest_11 : decode cX1_aGuest 11 = .ok (.aload_n 0, 1) := dk_42 (dk_at dksX1_aGuest_0 11 rfl rfl)
theorem dX1_aGuest_12 : decode cX1_aGuest 12 = .ok (.getfield 25, 3) := dk_180 0 25 (dk_at dksX1_aGuest_0 12 rfl rfl)
theorem dX1_aGuest_15 : decode cX1_aGuest 15 = .ok (.invokevirtual 96, 3) := dk_182 0 96 (dk_at dksX1_aGuest_0 15 rfl rfl)
theorem dX1_aGuest_18 : decode cX1_aGuest 18 = .ok (.athrow, 1) := dk_191 (dk_at dksX1_aGuest_0 18 rfl rfl)
theorem dX1_aGuest_19 : decode cX1_aGuest 19 = .ok (.aload_n 1, 1) := dk_43 (dk_at dksX1_aGuest_0 19 rfl rfl)
theorem dX1_aGuest_20 : decode cX1_aGuest 20 = .ok (.getfield 171, 3) := dk_180 0 171 (dk_at dksX1_aGuest_0 20 rfl rfl)
theorem dX1_aGuest_23 : decode cX1_aGuest 23 = .ok (.iload_n 2, 1) := dk_28 (dk_at dksX1_aGuest_0 23 rfl rfl)
theorem dX1_aGuest_24 : decode cX1_aGuest 24 = .ok (.aload_n 0, 1) := dk_42 (dk_at dksX1_aGuest_1 0 rfl rfl)
theorem dX1_aGuest_25 : decode cX1_aGuest 25 = .ok (.ldc 174, 2) := dk_18 174 (dk_at dksX1_aGuest_1 1 rfl rfl)
theorem dX1_aGuest_27 : decode cX1_aGuest 27 = .ok (.iconst 1, 1) := dk_4 (dk_at dksX1_aGuest_1 3 rfl rfl)
theorem dX1_aGuest_28 : decode cX1_aGuest 28 = .ok (.iconst 4, 1) := dk_7 (dk_at dksX1_aGuest_1 4 rfl rfl)
theorem dX1_aGuest_29 : decode cX1_aGuest 29 = .ok (.invokevirtual 110, 3) := dk_182 0 110 (dk_at dksX1_aGuest_1 5 rfl rfl)
theorem dX1_aGuest_32 : decode cX1_aGuest 32 = .ok (.iastore, 1) := dk_79 (dk_at dksX1_aGuest_1 8 rfl rfl)
theorem dX1_aGuest_33 : decode cX1_aGuest 33 = .ok (.aload_n 1, 1) := dk_43 (dk_at dksX1_aGuest_1 9 rfl rfl)
theorem dX1_aGuest_34 : decode cX1_aGuest 34 = .ok (.getfield 175, 3) := dk_180 0 175 (dk_at dksX1_aGuest_1 10 rfl rfl)
theorem dX1_aGuest_37 : decode cX1_aGuest 37 = .ok (.iload_n 2, 1) := dk_28 (dk_at dksX1_aGuest_1 13 rfl rfl)
theorem dX1_aGuest_38 : decode cX1_aGuest 38 = .ok (.aload_n 0, 1) := dk_42 (dk_at dksX1_aGuest_1 14 rfl rfl)
theorem dX1_aGuest_39 : decode cX1_aGuest 39 = .ok (.invokevirtual 142, 3) := dk_182 0 142 (dk_at dksX1_aGuest_1 15 rfl rfl)
theorem dX1_aGuest_42 : decode cX1_aGuest 42 = .ok (.iastore, 1) := dk_79 (dk_at dksX1_aGuest_1 18 rfl rfl)
theorem dX1_aGuest_43 : decode cX1_aGuest 43 = .ok (.aload_n 1, 1) := dk_43 (dk_at dksX1_aGuest_1 19 rfl rfl)
theorem dX1_aGuest_44 : decode cX1_aGuest 44 = .ok (.getfield 178, 3) := dk_180 0 178 (dk_at dksX1_aGuest_1 20 rfl rfl)
theorem dX1_aGuest_47 : decode cX1_aGuest 47 = .ok (.iload_n 2, 1) := dk_28 (dk_at dksX1_aGuest_1 23 rfl rfl)
theorem dX1_aGuest_48 : decode cX1_aGuest 48 = .ok (.aload_n 0, 1) := dk_42 (dk_at dksX1_aGuest_2 0 rfl rfl)
theorem dX1_aGuest_49 : decode cX1_aGuest 49 = .ok (.getfield 25, 3) := dk_180 0 25 (dk_at dksX1_aGuest_2 1 rfl rfl)
theorem dX1_aGuest_52 : decode cX1_aGuest 52 = .ok (.ldc 181, 2) := dk_18 181 (dk_at dksX1_aGuest_2 4 rfl rfl)
theorem dX1_aGuest_54 : decode cX1_aGuest 54 = .ok (.invokevirtual 182, 3) := dk_182 0 182 (dk_at dksX1_aGuest_2 6 rfl rfl)
theorem dX1_aGuest_57 : decode cX1_aGuest 57 = .ok (.ifCond .eq 10, 3) := dk_153 0 10 (dk_at dksX1_aGuest_2 9 rfl rfl)
theorem dX1_aGuest_60 : decode cX1_aGuest 60 = .ok (.aload_n 0, 1) := dk_42 (dk_at dksX1_aGuest_2 12 rfl rfl)
theorem dX1_aGuest_61 : decode cX1_aGuest 61 = .ok (.invokevirtual 186, 3) := dk_182 0 186 (dk_at dksX1_aGuest_2 13 rfl rfl)
theorem dX1_aGuest_64 : decode cX1_aGuest 64 = .ok (.goto 4, 3) := dk_167 0 4 (dk_at dksX1_aGuest_2 16 rfl rfl)
theorem dX1_aGuest_67 : decode cX1_aGuest 67 = .ok (.iconst 0, 1) := dk_3 (dk_at dksX1_aGuest_2 19 rfl rfl)
theorem dX1_aGuest_68 : decode cX1_aGuest 68 = .ok (.iastore, 1) := dk_79 (dk_at dksX1_aGuest_2 20 rfl rfl)
theorem dX1_aGuest_69 : decode cX1_aGuest 69 = .ok (.aload_n 1, 1) := dk_43 (dk_at dksX1_aGuest_2 21 rfl rfl)
theorem dX1_aGuest_70 : decode cX1_aGuest 70 = .ok (.getfield 165, 3) := dk_180 0 165 (dk_at dksX1_aGuest_3 0 rfl rfl)
theorem dX1_aGuest_73 : decode cX1_aGuest 73 = .ok (.iload_n 2, 1) := dk_28 (dk_at dksX1_aGuest_3 3 rfl rfl)
theorem dX1_aGuest_74 : decode cX1_aGuest 74 = .ok (.aaload, 1) := dk_50 (dk_at dksX1_aGuest_3 4 rfl rfl)
theorem dX1_aGuest_75 : decode cX1_aGuest 75 = .ok (.iconst 5, 1) := dk_8 (dk_at dksX1_aGuest_3 5 rfl rfl)
theorem dX1_aGuest_76 : decode cX1_aGuest 76 = .ok (.invokestatic 159, 3) := dk_184 0 159 (dk_at dksX1_aGuest_3 6 rfl rfl)
theorem dX1_aGuest_79 : decode cX1_aGuest 79 = .ok (.iconst 0, 1) := dk_3 (dk_at dksX1_aGuest_3 9 rfl rfl)
theorem dX1_aGuest_80 : decode cX1_aGuest 80 = .ok (.istore_n 3, 1) := dk_62 (dk_at dksX1_aGuest_3 10 rfl rfl)
theorem dX1_aGuest_81 : decode cX1_aGuest 81 = .ok (.iload_n 3, 1) := dk_29 (dk_at dksX1_aGuest_3 11 rfl rfl)
theorem dX1_aGuest_82 : decode cX1_aGuest 82 = .ok (.bipush 8, 2) := dk_16 8 (dk_at dksX1_aGuest_3 12 rfl rfl)
theorem dX1_aGuest_84 : decode cX1_aGuest 84 = .ok (.if_icmp .ge 18, 3) := dk_162 0 18 (dk_at dksX1_aGuest_3 14 rfl rfl)
theorem dX1_aGuest_87 : decode cX1_aGuest 87 = .ok (.aload_n 1, 1) := dk_43 (dk_at dksX1_aGuest_3 17 rfl rfl)
theorem dX1_aGuest_88 : decode cX1_aGuest 88 = .ok (.getfield 155, 3) := dk_180 0 155 (dk_at dksX1_aGuest_3 18 rfl rfl)
theorem dX1_aGuest_91 : decode cX1_aGuest 91 = .ok (.iload_n 3, 1) := dk_29 (dk_at dksX1_aGuest_3 21 rfl rfl)
theorem dX1_aGuest_92 : decode cX1_aGuest 92 = .ok (.aaload, 1) := dk_50 (dk_at dksX1_aGuest_3 22 rfl rfl)
theorem dX1_aGuest_93 : decode cX1_aGuest 93 = .ok (.iload_n 2, 1) := dk_28 (dk_at dksX1_aGuest_3 23 rfl rfl)
theorem dX1_aGuest_94 : decode cX1_aGuest 94 = .ok (.iconst 5, 1) := dk_8 (dk_at dksX1_aGuest_4 0 rfl rfl)
theorem dX1_aGuest_95 : decode cX1_aGuest 95 = .ok (.iastore, 1) := dk_79 (dk_at dksX1_aGuest_4 1 rfl rfl)
theorem dX1_aGuest_96 : decode cX1_aGuest 96 = .ok (.iinc 3 1, 3) := dk_132 3 1 (dk_at dksX1_aGuest_4 2 rfl rfl)
theorem dX1_aGuest_99 : decode cX1_aGuest 99 = .ok (.goto (-18), 3) := dk_167 255 238 (dk_at dksX1_aGuest_4 5 rfl rfl)
theorem dX1_aGuest_102 : decode cX1_aGuest 102 = .ok (.aload_n 1, 1) := dk_43 (dk_at dksX1_aGuest_4 8 rfl rfl)
theorem dX1_aGuest_103 : decode cX1_aGuest 103 = .ok (.dup, 1) := dk_89 (dk_at dksX1_aGuest_4 9 rfl rfl)
theorem dX1_aGuest_104 : decode cX1_aGuest 104 = .ok (.getfield 168, 3) := dk_180 0 168 (dk_at dksX1_aGuest_4 10 rfl rfl)
theorem dX1_aGuest_107 : decode cX1_aGuest 107 = .ok (.iconst 1, 1) := dk_4 (dk_at dksX1_aGuest_4 13 rfl rfl)
theorem dX1_aGuest_108 : decode cX1_aGuest 108 = .ok (.iadd, 1) := dk_96 (dk_at dksX1_aGuest_4 14 rfl rfl)
theorem dX1_aGuest_109 : decode cX1_aGuest 109 = .ok (.putfield 168, 3) := dk_181 0 168 (dk_at dksX1_aGuest_4 15 rfl rfl)
theorem dX1_aGuest_112 : decode cX1_aGuest 112 = .ok (.return_, 1) := dk_177 (dk_at dksX1_aGuest_4 18 rfl rfl)
abbrev cX1_marksTold : ByteArray := prog_1_method_9_code
def yX1_marksTold : MethodName := ⟨RX1, "marksTold", "()I"⟩
def dkwX1_marksTold_3 : List UInt8 := [28, 154, 0, 11, 42, 180, 0, 25, 182, 0, 96, 191, 28, 172]
abbrev dktX1_marksTold_3 : List UInt8 := dkwX1_marksTold_3 ++ []
def dkwX1_marksTold_2 : List UInt8 := [153, 0, 11, 42, 180, 0, 25, 182, 0, 96, 191, 28, 4, 21, 4, 120, 128, 61, 132, 3, 1, 167, 255, 201]
abbrev dktX1_marksTold_2 : List UInt8 := dkwX1_marksTold_2 ++ dktX1_marksTold_3
def dkwX1_marksTold_1 : List UInt8 := [182, 0, 120, 16, 97, 100, 54, 4, 21, 4, 3, 8, 184, 0, 124, 153, 0, 12, 28, 21, 4, 184, 0, 128]
abbrev dktX1_marksTold_1 : List UInt8 := dkwX1_marksTold_1 ++ dktX1_marksTold_2
def dkwX1_marksTold_0 : List UInt8 := [42, 180, 0, 25, 182, 0, 86, 76, 3, 61, 3, 62, 29, 43, 182, 0, 116, 162, 0, 53, 43, 29]
abbrev dktX1_marksTold_0 : List UInt8 := dkwX1_marksTold_0 ++ dktX1_marksTold_1
theorem dksX1_marksTold_0 : cX1_marksTold.data.toList.drop 0 = dktX1_marksTold_0 := by decide +kernel
theorem dksX1_marksTold_1 : cX1_marksTold.data.toList.drop 22 = dktX1_marksTold_1 := dk_seg dksX1_marksTold_0 22 rfl rfl
theorem dksX1_marksTold_2 : cX1_marksTold.data.toList.drop 46 = dktX1_marksTold_2 := dk_seg dksX1_marksTold_1 24 rfl rfl
theorem dksX1_marksTold_3 : cX1_marksTold.data.toList.drop 70 = dktX1_marksTold_3 := dk_seg dksX1_marksTold_2 24 rfl rfl
theorem dX1_marksTold_0 : decode cX1_marksTold 0 = .ok (.aload_n 0, 1) := dk_42 (dk_at dksX1_marksTold_0 0 rfl rfl)
theorem dX1_marksTold_1 : decode cX1_marksTold 1 = .ok (.getfield 25, 3) := dk_180 0 25 (dk_at dksX1_marksTold_0 1 rfl rfl)
theorem dX1_marksTold_4 : decode cX1_marksTold 4 = .ok (.invokevirtual 86, 3) := dk_182 0 86 (dk_at dksX1_marksTold_0 4 rfl rfl)
theorem dX1_marksTold_7 : decode cX1_marksTold 7 = .ok (.astore_n 1, 1) := dk_76 (dk_at dksX1_marksTold_0 7 rfl rfl)
theorem dX1_marksTold_8 : decode cX1_marksTold 8 = .ok (.iconst 0, 1) := dk_3 (dk_at dksX1_marksTold_0 8 rfl rfl)
theorem dX1_marksTold_9 : decode cX1_marksTold 9 = .ok (.istore_n 2, 1) := dk_61 (dk_at dksX1_marksTold_0 9 rfl rfl)
theorem dX1_marksTold_10 : decode cX1_marksTold 10 = .ok (.iconst 0, 1) := dk_3 (dk_at dksX1_marksTold_0 10 rfl rfl)
theorem dX1_marksTold_11 : decode cX1_marksTold 11 = .ok (.istore_n 3, 1) := dk_62 (dk_at dksX1_marksTold_0 11 rfl rfl)
theorem dX1_marksTold_12 : decode cX1_marksTold 12 = .ok (.iload_n 3, 1) := dk_29 (dk_at dksX1_marksTold_0 12 rfl rfl)
theorem dX1_marksTold_13 : decode cX1_marksTold 13 = .ok (.aload_n 1, 1) := dk_43 (dk_at dksX1_marksTold_0 13 rfl rfl)
theorem dX1_marksTold_14 : decode cX1_marksTold 14 = .ok (.invokevirtual 116, 3) := dk_182 0 116 (dk_at dksX1_marksTold_0 14 rfl rfl)
theorem dX1_marksTold_17 : decode cX1_marksTold 17 = .ok (.if_icmp .ge 53, 3) := dk_162 0 53 (dk_at dksX1_marksTold_0 17 rfl rfl)
theorem dX1_marksTold_20 : decode cX1_marksTold 20 = .ok (.aload_n 1, 1) := dk_43 (dk_at dksX1_marksTold_0 20 rfl rfl)
theorem dX1_marksTold_21 : decode cX1_marksTold 21 = .ok (.iload_n 3, 1) := dk_29 (dk_at dksX1_marksTold_0 21 rfl rfl)
theorem dX1_marksTold_22 : decode cX1_marksTold 22 = .ok (.invokevirtual 120, 3) := dk_182 0 120 (dk_at dksX1_marksTold_1 0 rfl rfl)
theorem dX1_marksTold_25 : decode cX1_marksTold 25 = .ok (.bipush 97, 2) := dk_16 97 (dk_at dksX1_marksTold_1 3 rfl rfl)
theorem dX1_marksTold_27 : decode cX1_marksTold 27 = .ok (.isub, 1) := dk_100 (dk_at dksX1_marksTold_1 5 rfl rfl)
theorem dX1_marksTold_28 : decode cX1_marksTold 28 = .ok (.istore 4, 2) := dk_54 4 (dk_at dksX1_marksTold_1 6 rfl rfl)
theorem dX1_marksTold_30 : decode cX1_marksTold 30 = .ok (.iload 4, 2) := dk_21 4 (dk_at dksX1_marksTold_1 8 rfl rfl)
theorem dX1_marksTold_32 : decode cX1_marksTold 32 = .ok (.iconst 0, 1) := dk_3 (dk_at dksX1_marksTold_1 10 rfl rfl)
theorem dX1_marksTold_33 : decode cX1_marksTold 33 = .ok (.iconst 5, 1) := dk_8 (dk_at dksX1_marksTold_1 11 rfl rfl)
theorem dX1_marksTold_34 : decode cX1_marksTold 34 = .ok (.invokestatic 124, 3) := dk_184 0 124 (dk_at dksX1_marksTold_1 12 rfl rfl)
theorem dX1_marksTold_37 : decode cX1_marksTold 37 = .ok (.ifCond .eq 12, 3) := dk_153 0 12 (dk_at dksX1_marksTold_1 15 rfl rfl)
theorem dX1_marksTold_40 : decode cX1_marksTold 40 = .ok (.iload_n 2, 1) := dk_28 (dk_at dksX1_marksTold_1 18 rfl rfl)
theorem dX1_marksTold_41 : decode cX1_marksTold 41 = .ok (.iload 4, 2) := dk_21 4 (dk_at dksX1_marksTold_1 19 rfl rfl)
theorem dX1_marksTold_43 : decode cX1_marksTold 43 = .ok (.invokestatic 128, 3) := dk_184 0 128 (dk_at dksX1_marksTold_1 21 rfl rfl)
theorem dX1_marksTold_46 : decode cX1_marksTold 46 = .ok (.ifCond .eq 11, 3) := dk_153 0 11 (dk_at dksX1_marksTold_2 0 rfl rfl)
theorem dX1_marksTold_49 : decode cX1_marksTold 49 = .ok (.aload_n 0, 1) := dk_42 (dk_at dksX1_marksTold_2 3 rfl rfl)
theorem dX1_marksTold_50 : decode cX1_marksTold 50 = .ok (.getfield 25, 3) := dk_180 0 25 (dk_at dksX1_marksTold_2 4 rfl rfl)
theorem dX1_marksTold_53 : decode cX1_marksTold 53 = .ok (.invokevirtual 96, 3) := dk_182 0 96 (dk_at dksX1_marksTold_2 7 rfl rfl)
theorem dX1_marksTold_56 : decode cX1_marksTold 56 = .ok (.athrow, 1) := dk_191 (dk_at dksX1_marksTold_2 10 rfl rfl)
theorem dX1_marksTold_57 : decode cX1_marksTold 57 = .ok (.iload_n 2, 1) := dk_28 (dk_at dksX1_marksTold_2 11 rfl rfl)
theorem dX1_marksTold_58 : decode cX1_marksTold 58 = .ok (.iconst 1, 1) := dk_4 (dk_at dksX1_marksTold_2 12 rfl rfl)
theorem dX1_marksTold_59 : decode cX1_marksTold 59 = .ok (.iload 4, 2) := dk_21 4 (dk_at dksX1_marksTold_2 13 rfl rfl)
theorem dX1_marksTold_61 : decode cX1_marksTold 61 = .ok (.ishl, 1) := dk_120 (dk_at dksX1_marksTold_2 15 rfl rfl)
theorem dX1_marksTold_62 : decode cX1_marksTold 62 = .ok (.ior, 1) := dk_128 (dk_at dksX1_marksTold_2 16 rfl rfl)
theorem dX1_marksTold_63 : decode cX1_marksTold 63 = .ok (.istore_n 2, 1) := dk_61 (dk_at dksX1_marksTold_2 17 rfl rfl)
theorem dX1_marksTold_64 : decode cX1_marksTold 64 = .ok (.iinc 3 1, 3) := dk_132 3 1 (dk_at dksX1_marksTold_2 18 rfl rfl)
theorem dX1_marksTold_67 : decode cX1_marksTold 67 = .ok (.goto (-55), 3) := dk_167 255 201 (dk_at dksX1_marksTold_2 21 rfl rfl)
theorem dX1_marksTold_70 : decode cX1_marksTold 70 = .ok (.iload_n 2, 1) := dk_28 (dk_at dksX1_marksTold_3 0 rfl rfl)
theorem dX1_marksTold_71 : decode cX1_marksTold 71 = .ok (.ifCond .ne 11, 3) := dk_154 0 11 (dk_at dksX1_marksTold_3 1 rfl rfl)
theorem dX1_marksTold_74 : decode cX1_marksTold 74 = .ok (.aload_n 0, 1) := dk_42 (dk_at dksX1_marksTold_3 4 rfl rfl)
theorem dX1_marksTold_75 : decode cX1_marksTold 75 = .ok (.getfield 25, 3) := dk_180 0 25 (dk_at dksX1_marksTold_3 5 rfl rfl)
theorem dX1_marksTold_78 : decode cX1_marksTold 78 = .ok (.invokevirtual 96, 3) := dk_182 0 96 (dk_at dksX1_marksTold_3 8 rfl rfl)
theorem dX1_marksTold_81 : decode cX1_marksTold 81 = .ok (.athrow, 1) := dk_191 (dk_at dksX1_marksTold_3 11 rfl rfl)
theorem dX1_marksTold_82 : decode cX1_marksTold 82 = .ok (.iload_n 2, 1) := dk_28 (dk_at dksX1_marksTold_3 12 rfl rfl)
theorem dX1_marksTold_83 : decode cX1_marksTold 83 = .ok (.ireturn, 1) := dk_172 (dk_at dksX1_marksTold_3 13 rfl rfl)
abbrev cX1_ranks : ByteArray := prog_1_method_12_code
def yX1_ranks : MethodName := ⟨RX1, "ranks", "([II)V"⟩
def dkwX1_ranks_3 : List UInt8 := [159, 0, 8, 45, 182, 0, 96, 191, 177]
abbrev dktX1_ranks_3 : List UInt8 := dkwX1_ranks_3 ++ []
def dkwX1_ranks_2 : List UInt8 := [16, 48, 100, 79, 132, 4, 1, 45, 89, 180, 0, 192, 4, 96, 181, 0, 192, 167, 255, 204, 21, 4, 28]
abbrev dktX1_ranks_2 : List UInt8 := dkwX1_ranks_2 ++ dktX1_ranks_3
def dkwX1_ranks_1 : List UInt8 := [184, 0, 124, 153, 0, 40, 21, 4, 28, 162, 0, 18, 43, 21, 4, 45, 45, 180, 0, 192, 182, 0, 195]
abbrev dktX1_ranks_1 : List UInt8 := dkwX1_ranks_1 ++ dktX1_ranks_2
def dkwX1_ranks_0 : List UInt8 := [42, 180, 0, 25, 78, 45, 182, 0, 189, 3, 54, 4, 45, 45, 180, 0, 192, 182, 0, 195, 16, 48, 16, 57]
abbrev dktX1_ranks_0 : List UInt8 := dkwX1_ranks_0 ++ dktX1_ranks_1
theorem dksX1_ranks_0 : cX1_ranks.data.toList.drop 0 = dktX1_ranks_0 := by decide +kernel
theorem dksX1_ranks_1 : cX1_ranks.data.toList.drop 24 = dktX1_ranks_1 := dk_seg dksX1_ranks_0 24 rfl rfl
theorem dksX1_ranks_2 : cX1_ranks.data.toList.drop 47 = dktX1_ranks_2 := dk_seg dksX1_ranks_1 23 rfl rfl
theorem dksX1_ranks_3 : cX1_ranks.data.toList.drop 70 = dktX1_ranks_3 := dk_seg dksX1_ranks_2 23 rfl rfl
theorem dX1_ranks_0 : decode cX1_ranks 0 = .ok (.aload_n 0, 1) := dk_42 (dk_at dksX1_ranks_0 0 rfl rfl)
theorem dX1_ranks_1 : decode cX1_ranks 1 = .ok (.getfield 25, 3) := dk_180 0 25 (dk_at dksX1_ranks_0 1 rfl rfl)
theorem dX1_ranks_4 : decode cX1_ranks 4 = .ok (.astore_n 3, 1) := dk_78 (dk_at dksX1_ranks_0 4 rfl rfl)
theorem dX1_ranks_5 : decode cX1_ranks 5 = .ok (.aload_n 3, 1) := dk_45 (dk_at dksX1_ranks_0 5 rfl rfl)
theorem dX1_ranks_6 : decode cX1_ranks 6 = .ok (.invokevirtual 189, 3) := dk_182 0 189 (dk_at dksX1_ranks_0 6 rfl rfl)
theorem dX1_ranks_9 : decode cX1_ranks 9 = .ok (.iconst 0, 1) := dk_3 (dk_at dksX1_ranks_0 9 rfl rfl)
theorem dX1_ranks_10 : decode cX1_ranks 10 = .ok (.istore 4, 2) := dk_54 4 (dk_at dksX1_ranks_0 10 rfl rfl)
theorem dX1_ranks_12 : decode cX1_ranks 12 = .ok (.aload_n 3, 1) := dk_45 (dk_at dksX1_ranks_0 12 rfl rfl)
theorem dX1_ranks_13 : decode cX1_ranks 13 = .ok (.aload_n 3, 1) := dk_45 (dk_at dksX1_ranks_0 13 rfl rfl)
theorem dX1_ranks_14 : decode cX1_ranks 14 = .ok (.getfield 192, 3) := dk_180 0 192 (dk_at dksX1_ranks_0 14 rfl rfl)
theorem dX1_ranks_17 : decode cX1_ranks 17 = .ok (.invokevirtual 195, 3) := dk_182 0 195 (dk_at dksX1_ranks_0 17 rfl rfl)
theorem dX1_ranks_20 : decode cX1_ranks 20 = .ok (.bipush 48, 2) := dk_16 48 (dk_at dksX1_ranks_0 20 rfl rfl)
theorem dX1_ranks_22 : decode cX1_ranks 22 = .ok (.bipush 57, 2) := dk_16 57 (dk_at dksX1_ranks_0 22 rfl rfl)
theorem dX1_ranks_24 : decode cX1_ranks 24 = .ok (.invokestatic 124, 3) := dk_184 0 124 (dk_at dksX1_ranks_1 0 rfl rfl)
theorem dX1_ranks_27 : decode cX1_ranks 27 = .ok (.ifCond .eq 40, 3) := dk_153 0 40 (dk_at dksX1_ranks_1 3 rfl rfl)
theorem dX1_ranks_30 : decode cX1_ranks 30 = .ok (.iload 4, 2) := dk_21 4 (dk_at dksX1_ranks_1 6 rfl rfl)
theorem dX1_ranks_32 : decode cX1_ranks 32 = .ok (.iload_n 2, 1) := dk_28 (dk_at dksX1_ranks_1 8 rfl rfl)
theorem dX1_ranks_33 : decode cX1_ranks 33 = .ok (.if_icmp .ge 18, 3) := dk_162 0 18 (dk_at dksX1_ranks_1 9 rfl rfl)
theorem dX1_ranks_36 : decode cX1_ranks 36 = .ok (.aload_n 1, 1) := dk_43 (dk_at dksX1_ranks_1 12 rfl rfl)
theorem dX1_ranks_37 : decode cX1_ranks 37 = .ok (.iload 4, 2) := dk_21 4 (dk_at dksX1_ranks_1 13 rfl rfl)
theorem dX1_ranks_39 : decode cX1_ranks 39 = .ok (.aload_n 3, 1) := dk_45 (dk_at dksX1_ranks_1 15 rfl rfl)
theorem dX1_ranks_40 : decode cX1_ranks 40 = .ok (.aload_n 3, 1) := dk_45 (dk_at dksX1_ranks_1 16 rfl rfl)
theorem dX1_ranks_41 : decode cX1_ranks 41 = .ok (.getfield 192, 3) := dk_180 0 192 (dk_at dksX1_ranks_1 17 rfl rfl)
theorem dX1_ranks_44 : decode cX1_ranks 44 = .ok (.invokevirtual 195, 3) := dk_182 0 195 (dk_at dksX1_ranks_1 20 rfl rfl)
theorem dX1_ranks_47 : decode cX1_ranks 47 = .ok (.bipush 48, 2) := dk_16 48 (dk_at dksX1_ranks_2 0 rfl rfl)
theorem dX1_ranks_49 : decode cX1_ranks 49 = .ok (.isub, 1) := dk_100 (dk_at dksX1_ranks_2 2 rfl rfl)
theorem dX1_ranks_50 : decode cX1_ranks 50 = .ok (.iastore, 1) := dk_79 (dk_at dksX1_ranks_2 3 rfl rfl)
theorem dX1_ranks_51 : decode cX1_ranks 51 = .ok (.iinc 4 1, 3) := dk_132 4 1 (dk_at dksX1_ranks_2 4 rfl rfl)
theorem dX1_ranks_54 : decode cX1_ranks 54 = .ok (.aload_n 3, 1) := dk_45 (dk_at dksX1_ranks_2 7 rfl rfl)
theorem dX1_ranks_55 : decode cX1_ranks 55 = .ok (.dup, 1) := dk_89 (dk_at dksX1_ranks_2 8 rfl rfl)
theorem dX1_ranks_56 : decode cX1_ranks 56 = .ok (.getfield 192, 3) := dk_180 0 192 (dk_at dksX1_ranks_2 9 rfl rfl)
theorem dX1_ranks_59 : decode cX1_ranks 59 = .ok (.iconst 1, 1) := dk_4 (dk_at dksX1_ranks_2 12 rfl rfl)
theorem dX1_ranks_60 : decode cX1_ranks 60 = .ok (.iadd, 1) := dk_96 (dk_at dksX1_ranks_2 13 rfl rfl)
theorem dX1_ranks_61 : decode cX1_ranks 61 = .ok (.putfield 192, 3) := dk_181 0 192 (dk_at dksX1_ranks_2 14 rfl rfl)
theorem dX1_ranks_64 : decode cX1_ranks 64 = .ok (.goto (-52), 3) := dk_167 255 204 (dk_at dksX1_ranks_2 17 rfl rfl)
theorem dX1_ranks_67 : decode cX1_ranks 67 = .ok (.iload 4, 2) := dk_21 4 (dk_at dksX1_ranks_2 20 rfl rfl)
theorem dX1_ranks_69 : decode cX1_ranks 69 = .ok (.iload_n 2, 1) := dk_28 (dk_at dksX1_ranks_2 22 rfl rfl)
theorem dX1_ranks_70 : decode cX1_ranks 70 = .ok (.if_icmp .eq 8, 3) := dk_159 0 8 (dk_at dksX1_ranks_3 0 rfl rfl)
theorem dX1_ranks_73 : decode cX1_ranks 73 = .ok (.aload_n 3, 1) := dk_45 (dk_at dksX1_ranks_3 3 rfl rfl)
theorem dX1_ranks_74 : decode cX1_ranks 74 = .ok (.invokevirtual 96, 3) := dk_182 0 96 (dk_at dksX1_ranks_3 4 rfl rfl)
theorem dX1_ranks_77 : decode cX1_ranks 77 = .ok (.athrow, 1) := dk_191 (dk_at dksX1_ranks_3 7 rfl rfl)
theorem dX1_ranks_78 : decode cX1_ranks 78 = .ok (.return_, 1) := dk_177 (dk_at dksX1_ranks_3 8 rfl rfl)
abbrev cX1_goesOn : ByteArray := prog_1_method_16_code
def yX1_goesOn : MethodName := ⟨RX1, "goesOn", "()Z"⟩
def dkwX1_goesOn_1 : List UInt8 := [4, 172, 42, 180, 0, 25, 182, 0, 96, 191]
abbrev dktX1_goesOn_1 : List UInt8 := dkwX1_goesOn_1 ++ []
def dkwX1_goesOn_0 : List UInt8 := [42, 180, 0, 25, 182, 0, 233, 153, 0, 5, 3, 172, 42, 180, 0, 25, 16, 59, 182, 0, 247, 153, 0, 5]
abbrev dktX1_goesOn_0 : List UInt8 := dkwX1_goesOn_0 ++ dktX1_goesOn_1
theorem dksX1_goesOn_0 : cX1_goesOn.data.toList.drop 0 = dktX1_goesOn_0 := by decide +kernel
theorem dksX1_goesOn_1 : cX1_goesOn.data.toList.drop 24 = dktX1_goesOn_1 := dk_seg dksX1_goesOn_0 24 rfl rfl
theorem dX1_goesOn_0 : decode cX1_goesOn 0 = .ok (.aload_n 0, 1) := dk_42 (dk_at dksX1_goesOn_0 0 rfl rfl)
theorem dX1_goesOn_1 : decode cX1_goesOn 1 = .ok (.getfield 25, 3) := dk_180 0 25 (dk_at dksX1_goesOn_0 1 rfl rfl)
theorem dX1_goesOn_4 : decode cX1_goesOn 4 = .ok (.invokevirtual 233, 3) := dk_182 0 233 (dk_at dksX1_goesOn_0 4 rfl rfl)
theorem dX1_goesOn_7 : decode cX1_goesOn 7 = .ok (.ifCond .eq 5, 3) := dk_153 0 5 (dk_at dksX1_goesOn_0 7 rfl rfl)
theorem dX1_goesOn_10 : decode cX1_goesOn 10 = .ok (.iconst 0, 1) := dk_3 (dk_at dksX1_goesOn_0 10 rfl rfl)
theorem dX1_goesOn_11 : decode cX1_goesOn 11 = .ok (.ireturn, 1) := dk_172 (dk_at dksX1_goesOn_0 11 rfl rfl)
theorem dX1_goesOn_12 : decode cX1_goesOn 12 = .ok (.aload_n 0, 1) := dk_42 (dk_at dksX1_goesOn_0 12 rfl rfl)
theorem dX1_goesOn_13 : decode cX1_goesOn 13 = .ok (.getfield 25, 3) := dk_180 0 25 (dk_at dksX1_goesOn_0 13 rfl rfl)
theorem dX1_goesOn_16 : decode cX1_goesOn 16 = .ok (.bipush 59, 2) := dk_16 59 (dk_at dksX1_goesOn_0 16 rfl rfl)
theorem dX1_goesOn_18 : decode cX1_goesOn 18 = .ok (.invokevirtual 247, 3) := dk_182 0 247 (dk_at dksX1_goesOn_0 18 rfl rfl)
theorem dX1_goesOn_21 : decode cX1_goesOn 21 = .ok (.ifCond .eq 5, 3) := dk_153 0 5 (dk_at dksX1_goesOn_0 21 rfl rfl)
theorem dX1_goesOn_24 : decode cX1_goesOn 24 = .ok (.iconst 1, 1) := dk_4 (dk_at dksX1_goesOn_1 0 rfl rfl)
theorem dX1_goesOn_25 : decode cX1_goesOn 25 = .ok (.ireturn, 1) := dk_172 (dk_at dksX1_goesOn_1 1 rfl rfl)
theorem dX1_goesOn_26 : decode cX1_goesOn 26 = .ok (.aload_n 0, 1) := dk_42 (dk_at dksX1_goesOn_1 2 rfl rfl)
theorem dX1_goesOn_27 : decode cX1_goesOn 27 = .ok (.getfield 25, 3) := dk_180 0 25 (dk_at dksX1_goesOn_1 3 rfl rfl)
theorem dX1_goesOn_30 : decode cX1_goesOn 30 = .ok (.invokevirtual 96, 3) := dk_182 0 96 (dk_at dksX1_goesOn_1 6 rfl rfl)
theorem dX1_goesOn_33 : decode cX1_goesOn 33 = .ok (.athrow, 1) := dk_191 (dk_at dksX1_goesOn_1 9 rfl rfl)
abbrev cX1_fails : ByteArray := prog_1_method_17_code
def yX1_fails : MethodName := ⟨RX1, "fails", "()V"⟩
def dkwX1_fails_0 : List UInt8 := [42, 180, 0, 25, 42, 180, 0, 25, 180, 0, 250, 181, 0, 82, 187, 0, 253, 89, 183, 0, 255, 191]
abbrev dktX1_fails_0 : List UInt8 := dkwX1_fails_0 ++ []
theorem dksX1_fails_0 : cX1_fails.data.toList.drop 0 = dktX1_fails_0 := by decide +kernel
theorem dX1_fails_0 : decode cX1_fails 0 = .ok (.aload_n 0, 1) := dk_42 (dk_at dksX1_fails_0 0 rfl rfl)
theorem dX1_fails_1 : decode cX1_fails 1 = .ok (.getfield 25, 3) := dk_180 0 25 (dk_at dksX1_fails_0 1 rfl rfl)
theorem dX1_fails_4 : decode cX1_fails 4 = .ok (.aload_n 0, 1) := dk_42 (dk_at dksX1_fails_0 4 rfl rfl)
theorem dX1_fails_5 : decode cX1_fails 5 = .ok (.getfield 25, 3) := dk_180 0 25 (dk_at dksX1_fails_0 5 rfl rfl)
theorem dX1_fails_8 : decode cX1_fails 8 = .ok (.getfield 250, 3) := dk_180 0 250 (dk_at dksX1_fails_0 8 rfl rfl)
theorem dX1_fails_11 : decode cX1_fails 11 = .ok (.putfield 82, 3) := dk_181 0 82 (dk_at dksX1_fails_0 11 rfl rfl)
theorem dX1_fails_14 : decode cX1_fails 14 = .ok (.new 253, 3) := dk_187 0 253 (dk_at dksX1_fails_0 14 rfl rfl)
theorem dX1_fails_17 : decode cX1_fails 17 = .ok (.dup, 1) := dk_89 (dk_at dksX1_fails_0 17 rfl rfl)
theorem dX1_fails_18 : decode cX1_fails 18 = .ok (.invokespecial 255, 3) := dk_183 0 255 (dk_at dksX1_fails_0 18 rfl rfl)
theorem dX1_fails_21 : decode cX1_fails 21 = .ok (.athrow, 1) := dk_191 (dk_at dksX1_fails_0 21 rfl rfl)
abbrev cX1_law : ByteArray := prog_1_method_26_code
def yX1_law : MethodName := ⟨RX1, "law", "()I"⟩
def dkwX1_law_2 : List UInt8 := [180, 1, 133, 180, 1, 119, 182, 1, 122, 172]
abbrev dktX1_law_2 : List UInt8 := dkwX1_law_2 ++ []
def dkwX1_law_1 : List UInt8 := [181, 0, 82, 167, 0, 8, 76, 42, 182, 1, 12, 42, 180, 0, 42, 182, 1, 21, 42, 180, 0, 10]
abbrev dktX1_law_1 : List UInt8 := dkwX1_law_1 ++ dktX1_law_2
def dkwX1_law_0 : List UInt8 := [42, 180, 0, 25, 182, 1, 0, 42, 180, 0, 10, 42, 182, 1, 129, 181, 1, 133, 42, 180, 0, 25, 2]
abbrev dktX1_law_0 : List UInt8 := dkwX1_law_0 ++ dktX1_law_1
theorem dksX1_law_0 : cX1_law.data.toList.drop 0 = dktX1_law_0 := by decide +kernel
theorem dksX1_law_1 : cX1_law.data.toList.drop 23 = dktX1_law_1 := dk_seg dksX1_law_0 23 rfl rfl
theorem dksX1_law_2 : cX1_law.data.toList.drop 45 = dktX1_law_2 := dk_seg dksX1_law_1 22 rfl rfl
theorem dX1_law_0 : decode cX1_law 0 = .ok (.aload_n 0, 1) := dk_42 (dk_at dksX1_law_0 0 rfl rfl)
theorem dX1_law_1 : decode cX1_law 1 = .ok (.getfield 25, 3) := dk_180 0 25 (dk_at dksX1_law_0 1 rfl rfl)
theorem dX1_law_4 : decode cX1_law 4 = .ok (.invokevirtual 256, 3) := dk_182 1 0 (dk_at dksX1_law_0 4 rfl rfl)
theorem dX1_law_7 : decode cX1_law 7 = .ok (.aload_n 0, 1) := dk_42 (dk_at dksX1_law_0 7 rfl rfl)
theorem dX1_law_8 : decode cX1_law 8 = .ok (.getfield 10, 3) := dk_180 0 10 (dk_at dksX1_law_0 8 rfl rfl)
theorem dX1_law_11 : decode cX1_law 11 = .ok (.aload_n 0, 1) := dk_42 (dk_at dksX1_law_0 11 rfl rfl)
theorem dX1_law_12 : decode cX1_law 12 = .ok (.invokevirtual 385, 3) := dk_182 1 129 (dk_at dksX1_law_0 12 rfl rfl)
theorem dX1_law_15 : decode cX1_law 15 = .ok (.putfield 389, 3) := dk_181 1 133 (dk_at dksX1_law_0 15 rfl rfl)
theorem dX1_law_18 : decode cX1_law 18 = .ok (.aload_n 0, 1) := dk_42 (dk_at dksX1_law_0 18 rfl rfl)
theorem dX1_law_19 : decode cX1_law 19 = .ok (.getfield 25, 3) := dk_180 0 25 (dk_at dksX1_law_0 19 rfl rfl)
theorem dX1_law_22 : decode cX1_law 22 = .ok (.iconst (-1), 1) := dk_2 (dk_at dksX1_law_0 22 rfl rfl)
theorem dX1_law_23 : decode cX1_law 23 = .ok (.putfield 82, 3) := dk_181 0 82 (dk_at dksX1_law_1 0 rfl rfl)
theorem dX1_law_26 : decode cX1_law 26 = .ok (.goto 8, 3) := dk_167 0 8 (dk_at dksX1_law_1 3 rfl rfl)
theorem dX1_law_29 : decode cX1_law 29 = .ok (.astore_n 1, 1) := dk_76 (dk_at dksX1_law_1 6 rfl rfl)
theorem dX1_law_30 : decode cX1_law 30 = .ok (.aload_n 0, 1) := dk_42 (dk_at dksX1_law_1 7 rfl rfl)
theorem dX1_law_31 : decode cX1_law 31 = .ok (.invokevirtual 268, 3) := dk_182 1 12 (dk_at dksX1_law_1 8 rfl rfl)
theorem dX1_law_34 : decode cX1_law 34 = .ok (.aload_n 0, 1) := dk_42 (dk_at dksX1_law_1 11 rfl rfl)
theorem dX1_law_35 : decode cX1_law 35 = .ok (.getfield 42, 3) := dk_180 0 42 (dk_at dksX1_law_1 12 rfl rfl)
theorem dX1_law_38 : decode cX1_law 38 = .ok (.invokevirtual 277, 3) := dk_182 1 21 (dk_at dksX1_law_1 15 rfl rfl)
theorem dX1_law_41 : decode cX1_law 41 = .ok (.aload_n 0, 1) := dk_42 (dk_at dksX1_law_1 18 rfl rfl)
theorem dX1_law_42 : decode cX1_law 42 = .ok (.getfield 10, 3) := dk_180 0 10 (dk_at dksX1_law_1 19 rfl rfl)
theorem dX1_law_45 : decode cX1_law 45 = .ok (.getfield 389, 3) := dk_180 1 133 (dk_at dksX1_law_2 0 rfl rfl)
theorem dX1_law_48 : decode cX1_law 48 = .ok (.getfield 375, 3) := dk_180 1 119 (dk_at dksX1_law_2 3 rfl rfl)
theorem dX1_law_51 : decode cX1_law 51 = .ok (.invokevirtual 378, 3) := dk_182 1 122 (dk_at dksX1_law_2 6 rfl rfl)
theorem dX1_law_54 : decode cX1_law 54 = .ok (.ireturn, 1) := dk_172 (dk_at dksX1_law_2 9 rfl rfl)
abbrev cX1_lawText : ByteArray := prog_1_method_25_code
def yX1_lawText : MethodName := ⟨RX1, "lawText", "()LVisitingHours$Law;"⟩
def dkwX1_lawText_2 : List UInt8 := [182, 0, 244, 154, 255, 227, 43, 176]
abbrev dktX1_lawText_2 : List UInt8 := dkwX1_lawText_2 ++ []
def dkwX1_lawText_1 : List UInt8 := [180, 1, 119, 182, 1, 122, 16, 12, 182, 0, 237, 43, 180, 1, 119, 42, 182, 1, 125, 182, 1, 48, 87, 42]
abbrev dktX1_lawText_1 : List UInt8 := dkwX1_lawText_1 ++ dktX1_lawText_2
def dkwX1_lawText_0 : List UInt8 := [187, 1, 116, 89, 183, 1, 118, 76, 42, 180, 0, 25, 182, 0, 233, 153, 0, 5, 43, 176, 42, 43]
abbrev dktX1_lawText_0 : List UInt8 := dkwX1_lawText_0 ++ dktX1_lawText_1
theorem dksX1_lawText_0 : cX1_lawText.data.toList.drop 0 = dktX1_lawText_0 := by decide +kernel
theorem dksX1_lawText_1 : cX1_lawText.data.toList.drop 22 = dktX1_lawText_1 := dk_seg dksX1_lawText_0 22 rfl rfl
theorem dksX1_lawText_2 : cX1_lawText.data.toList.drop 46 = dktX1_lawText_2 := dk_seg dksX1_lawText_1 24 rfl rfl
theorem dX1_lawText_0 : decode cX1_lawText 0 = .ok (.new 372, 3) := dk_187 1 116 (dk_at dksX1_lawText_0 0 rfl rfl)
theorem dX1_lawText_3 : decode cX1_lawText 3 = .ok (.dup, 1) := dk_89 (dk_at dksX1_lawText_0 3 rfl rfl)
theorem dX1_lawText_4 : decode cX1_lawText 4 = .ok (.invokespecial 374, 3) := dk_183 1 118 (dk_at dksX1_lawText_0 4 rfl rfl)
theorem dX1_lawText_7 : decode cX1_lawText 7 = .ok (.astore_n 1, 1) := dk_76 (dk_at dksX1_lawText_0 7 rfl rfl)
theorem dX1_lawText_8 : decode cX1_lawText 8 = .ok (.aload_n 0, 1) := dk_42 (dk_at dksX1_lawText_0 8 rfl rfl)
theorem dX1_lawText_9 : decode cX1_lawText 9 = .ok (.getfield 25, 3) := dk_180 0 25 (dk_at dksX1_lawText_0 9 rfl rfl)
theorem dX1_lawText_12 : decode cX1_lawText 12 = .ok (.invokevirtual 233, 3) := dk_182 0 233 (dk_at dksX1_lawText_0 12 rfl rfl)
theorem dX1_lawText_15 : decode cX1_lawText 15 = .ok (.ifCond .eq 5, 3) := dk_153 0 5 (dk_at dksX1_lawText_0 15 rfl rfl)
theorem dX1_lawText_18 : decode cX1_lawText 18 = .ok (.aload_n 1, 1) := dk_43 (dk_at dksX1_lawText_0 18 rfl rfl)
theorem dX1_lawText_19 : decode cX1_lawText 19 = .ok (.areturn, 1) := dk_176 (dk_at dksX1_lawText_0 19 rfl rfl)
theorem dX1_lawText_20 : decode cX1_lawText 20 = .ok (.aload_n 0, 1) := dk_42 (dk_at dksX1_lawText_0 20 rfl rfl)
theorem dX1_lawText_21 : decode cX1_lawText 21 = .ok (.aload_n 1, 1) := dk_43 (dk_at dksX1_lawText_0 21 rfl rfl)
theorem dX1_lawText_22 : decode cX1_lawText 22 = .ok (.getfield 375, 3) := dk_180 1 119 (dk_at dksX1_lawText_1 0 rfl rfl)
theorem dX1_lawText_25 : decode cX1_lawText 25 = .ok (.invokevirtual 378, 3) := dk_182 1 122 (dk_at dksX1_lawText_1 3 rfl rfl)
theorem dX1_lawText_28 : decode cX1_lawText 28 = .ok (.bipush 12, 2) := dk_16 12 (dk_at dksX1_lawText_1 6 rfl rfl)
theorem dX1_lawText_30 : decode cX1_lawText 30 = .ok (.invokevirtual 237, 3) := dk_182 0 237 (dk_at dksX1_lawText_1 8 rfl rfl)
theorem dX1_lawText_33 : decode cX1_lawText 33 = .ok (.aload_n 1, 1) := dk_43 (dk_at dksX1_lawText_1 11 rfl rfl)
theorem dX1_lawText_34 : decode cX1_lawText 34 = .ok (.getfield 375, 3) := dk_180 1 119 (dk_at dksX1_lawText_1 12 rfl rfl)
theorem dX1_lawText_37 : decode cX1_lawText 37 = .ok (.aload_n 0, 1) := dk_42 (dk_at dksX1_lawText_1 15 rfl rfl)
theorem dX1_lawText_38 : decode cX1_lawText 38 = .ok (.invokevirtual 381, 3) := dk_182 1 125 (dk_at dksX1_lawText_1 16 rfl rfl)
theorem dX1_lawText_41 : decode cX1_lawText 41 = .ok (.invokevirtual 304, 3) := dk_182 1 48 (dk_at dksX1_lawText_1 19 rfl rfl)
theorem dX1_lawText_44 : decode cX1_lawText 44 = .ok (.pop, 1) := dk_87 (dk_at dksX1_lawText_1 22 rfl rfl)
theorem dX1_lawText_45 : decode cX1_lawText 45 = .ok (.aload_n 0, 1) := dk_42 (dk_at dksX1_lawText_1 23 rfl rfl)
theorem dX1_lawText_46 : decode cX1_lawText 46 = .ok (.invokevirtual 244, 3) := dk_182 0 244 (dk_at dksX1_lawText_2 0 rfl rfl)
theorem dX1_lawText_49 : decode cX1_lawText 49 = .ok (.ifCond .ne (-29), 3) := dk_154 255 227 (dk_at dksX1_lawText_2 3 rfl rfl)
theorem dX1_lawText_52 : decode cX1_lawText 52 = .ok (.aload_n 1, 1) := dk_43 (dk_at dksX1_lawText_2 6 rfl rfl)
theorem dX1_lawText_53 : decode cX1_lawText 53 = .ok (.areturn, 1) := dk_176 (dk_at dksX1_lawText_2 7 rfl rfl)
abbrev cX1_lawLine : ByteArray := prog_1_method_24_code
def yX1_lawLine : MethodName := ⟨RX1, "lawLine", "()LVisitingHours$Line;"⟩
def dkwX1_lawLine_3 : List UInt8 := [183, 1, 113, 176]
abbrev dktX1_lawLine_3 : List UInt8 := dkwX1_lawLine_3 ++ []
def dkwX1_lawLine_2 : List UInt8 := [89, 43, 28, 42, 180, 0, 25, 19, 1, 111, 182, 0, 182, 153, 0, 10, 42, 182, 1, 53, 167, 0, 4, 1]
abbrev dktX1_lawLine_2 : List UInt8 := dkwX1_lawLine_2 ++ dktX1_lawLine_3
def dkwX1_lawLine_1 : List UInt8 := [178, 1, 105, 166, 0, 7, 3, 167, 0, 13, 42, 180, 0, 25, 3, 16, 99, 182, 0, 104, 61, 187, 1, 109]
abbrev dktX1_lawLine_1 : List UInt8 := dkwX1_lawLine_1 ++ dktX1_lawLine_2
def dkwX1_lawLine_0 : List UInt8 := [42, 180, 0, 25, 182, 0, 86, 184, 1, 100, 76, 43, 199, 0, 11, 42, 180, 0, 25, 182, 0, 96, 191, 43]
abbrev dktX1_lawLine_0 : List UInt8 := dkwX1_lawLine_0 ++ dktX1_lawLine_1
theorem dksX1_lawLine_0 : cX1_lawLine.data.toList.drop 0 = dktX1_lawLine_0 := by decide +kernel
theorem dksX1_lawLine_1 : cX1_lawLine.data.toList.drop 24 = dktX1_lawLine_1 := dk_seg dksX1_lawLine_0 24 rfl rfl
theorem dksX1_lawLine_2 : cX1_lawLine.data.toList.drop 48 = dktX1_lawLine_2 := dk_seg dksX1_lawLine_1 24 rfl rfl
theorem dksX1_lawLine_3 : cX1_lawLine.data.toList.drop 72 = dktX1_lawLine_3 := dk_seg dksX1_lawLine_2 24 rfl rfl
theorem dX1_lawLine_0 : decode cX1_lawLine 0 = .ok (.aload_n 0, 1) := dk_42 (dk_at dksX1_lawLine_0 0 rfl rfl)
theorem dX1_lawLine_1 : decode cX1_lawLine 1 = .ok (.getfield 25, 3) := dk_180 0 25 (dk_at dksX1_lawLine_0 1 rfl rfl)
theorem dX1_lawLine_4 : decode cX1_lawLine 4 = .ok (.invokevirtual 86, 3) := dk_182 0 86 (dk_at dksX1_lawLine_0 4 rfl rfl)
theorem dX1_lawLine_7 : decode cX1_lawLine 7 = .ok (.invokestatic 356, 3) := dk_184 1 100 (dk_at dksX1_lawLine_0 7 rfl rfl)
theorem dX1_lawLine_10 : decode cX1_lawLine 10 = .ok (.astore_n 1, 1) := dk_76 (dk_at dksX1_lawLine_0 10 rfl rfl)
theorem dX1_lawLine_11 : decode cX1_lawLine 11 = .ok (.aload_n 1, 1) := dk_43 (dk_at dksX1_lawLine_0 11 rfl rfl)
theorem dX1_lawLine_12 : decode cX1_lawLine 12 = .ok (.ifnonnull 11, 3) := dk_199 0 11 (dk_at dksX1_lawLine_0 12 rfl rfl)
theorem dX1_lawLine_15 : decode cX1_lawLine 15 = .ok (.aload_n 0, 1) := dk_42 (dk_at dksX1_lawLine_0 15 rfl rfl)
theorem dX1_lawLine_16 : decode cX1_lawLine 16 = .ok (.getfield 25, 3) := dk_180 0 25 (dk_at dksX1_lawLine_0 16 rfl rfl)
theorem dX1_lawLine_19 : decode cX1_lawLine 19 = .ok (.invokevirtual 96, 3) := dk_182 0 96 (dk_at dksX1_lawLine_0 19 rfl rfl)
theorem dX1_lawLine_22 : decode cX1_lawLine 22 = .ok (.athrow, 1) := dk_191 (dk_at dksX1_lawLine_0 22 rfl rfl)
theorem dX1_lawLine_23 : decode cX1_lawLine 23 = .ok (.aload_n 1, 1) := dk_43 (dk_at dksX1_lawLine_0 23 rfl rfl)
theorem dX1_lawLine_24 : decode cX1_lawLine 24 = .ok (.getstatic 361, 3) := dk_178 1 105 (dk_at dksX1_lawLine_1 0 rfl rfl)
theorem dX1_lawLine_27 : decode cX1_lawLine 27 = .ok (.if_acmp .ne 7, 3) := dk_166 0 7 (dk_at dksX1_lawLine_1 3 rfl rfl)
theorem dX1_lawLine_30 : decode cX1_lawLine 30 = .ok (.iconst 0, 1) := dk_3 (dk_at dksX1_lawLine_1 6 rfl rfl)
theorem dX1_lawLine_31 : decode cX1_lawLine 31 = .ok (.goto 13, 3) := dk_167 0 13 (dk_at dksX1_lawLine_1 7 rfl rfl)
theorem dX1_lawLine_34 : decode cX1_lawLine 34 = .ok (.aload_n 0, 1) := dk_42 (dk_at dksX1_lawLine_1 10 rfl rfl)
theorem dX1_lawLine_35 : decode cX1_lawLine 35 = .ok (.getfield 25, 3) := dk_180 0 25 (dk_at dksX1_lawLine_1 11 rfl rfl)
theorem dX1_lawLine_38 : decode cX1_lawLine 38 = .ok (.iconst 0, 1) := dk_3 (dk_at dksX1_lawLine_1 14 rfl rfl)
theorem dX1_lawLine_39 : decode cX1_lawLine 39 = .ok (.bipush 99, 2) := dk_16 99 (dk_at dksX1_lawLine_1 15 rfl rfl)
theorem dX1_lawLine_41 : decode cX1_lawLine 41 = .ok (.invokevirtual 104, 3) := dk_182 0 104 (dk_at dksX1_lawLine_1 17 rfl rfl)
theorem dX1_lawLine_44 : decode cX1_lawLine 44 = .ok (.istore_n 2, 1) := dk_61 (dk_at dksX1_lawLine_1 20 rfl rfl)
theorem dX1_lawLine_45 : decode cX1_lawLine 45 = .ok (.new 365, 3) := dk_187 1 109 (dk_at dksX1_lawLine_1 21 rfl rfl)
theorem dX1_lawLine_48 : decode cX1_lawLine 48 = .ok (.dup, 1) := dk_89 (dk_at dksX1_lawLine_2 0 rfl rfl)
theorem dX1_lawLine_49 : decode cX1_lawLine 49 = .ok (.aload_n 1, 1) := dk_43 (dk_at dksX1_lawLine_2 1 rfl rfl)
theorem dX1_lawLine_50 : decode cX1_lawLine 50 = .ok (.iload_n 2, 1) := dk_28 (dk_at dksX1_lawLine_2 2 rfl rfl)
theorem dX1_lawLine_51 : decode cX1_lawLine 51 = .ok (.aload_n 0, 1) := dk_42 (dk_at dksX1_lawLine_2 3 rfl rfl)
theorem dX1_lawLine_52 : decode cX1_lawLine 52 = .ok (.getfield 25, 3) := dk_180 0 25 (dk_at dksX1_lawLine_2 4 rfl rfl)
theorem dX1_lawLine_55 : decode cX1_lawLine 55 = .ok (.ldc_w 367, 3) := dk_19 1 111 (dk_at dksX1_lawLine_2 7 rfl rfl)
theorem dX1_lawLine_58 : decode cX1_lawLine 58 = .ok (.invokevirtual 182, 3) := dk_182 0 182 (dk_at dksX1_lawLine_2 10 rfl rfl)
theorem dX1_lawLine_61 : decode cX1_lawLine 61 = .ok (.ifCond .eq 10, 3) := dk_153 0 10 (dk_at dksX1_lawLine_2 13 rfl rfl)
theorem dX1_lawLine_64 : decode cX1_lawLine 64 = .ok (.aload_n 0, 1) := dk_42 (dk_at dksX1_lawLine_2 16 rfl rfl)
theorem dX1_lawLine_65 : decode cX1_lawLine 65 = .ok (.invokevirtual 309, 3) := dk_182 1 53 (dk_at dksX1_lawLine_2 17 rfl rfl)
theorem dX1_lawLine_68 : decode cX1_lawLine 68 = .ok (.goto 4, 3) := dk_167 0 4 (dk_at dksX1_lawLine_2 20 rfl rfl)
theorem dX1_lawLine_71 : decode cX1_lawLine 71 = .ok (.aconst_null, 1) := dk_1 (dk_at dksX1_lawLine_2 23 rfl rfl)
theorem dX1_lawLine_72 : decode cX1_lawLine 72 = .ok (.invokespecial 369, 3) := dk_183 1 113 (dk_at dksX1_lawLine_3 0 rfl rfl)
theorem dX1_lawLine_75 : decode cX1_lawLine 75 = .ok (.areturn, 1) := dk_176 (dk_at dksX1_lawLine_3 3 rfl rfl)
abbrev cX1_cond : ByteArray := prog_1_method_23_code
def yX1_cond : MethodName := ⟨RX1, "cond", "()LVisitingHours$Cond;"⟩
def dkwX1_cond_1 : List UInt8 := [180, 0, 25, 19, 1, 98, 182, 0, 182, 154, 255, 234, 43, 176]
abbrev dktX1_cond_1 : List UInt8 := dkwX1_cond_1 ++ []
def dkwX1_cond_0 : List UInt8 := [187, 1, 87, 89, 3, 183, 1, 89, 76, 43, 180, 1, 90, 42, 182, 1, 95, 182, 1, 48, 87, 42]
abbrev dktX1_cond_0 : List UInt8 := dkwX1_cond_0 ++ dktX1_cond_1
theorem dksX1_cond_0 : cX1_cond.data.toList.drop 0 = dktX1_cond_0 := by decide +kernel
theorem dksX1_cond_1 : cX1_cond.data.toList.drop 22 = dktX1_cond_1 := dk_seg dksX1_cond_0 22 rfl rfl
theorem dX1_cond_0 : decode cX1_cond 0 = .ok (.new 343, 3) := dk_187 1 87 (dk_at dksX1_cond_0 0 rfl rfl)
theorem dX1_cond_3 : decode cX1_cond 3 = .ok (.dup, 1) := dk_89 (dk_at dksX1_cond_0 3 rfl rfl)
theorem dX1_cond_4 : decode cX1_cond 4 = .ok (.iconst 0, 1) := dk_3 (dk_at dksX1_cond_0 4 rfl rfl)
theorem dX1_cond_5 : decode cX1_cond 5 = .ok (.invokespecial 345, 3) := dk_183 1 89 (dk_at dksX1_cond_0 5 rfl rfl)
theorem dX1_cond_8 : decode cX1_cond 8 = .ok (.astore_n 1, 1) := dk_76 (dk_at dksX1_cond_0 8 rfl rfl)
theorem dX1_cond_9 : decode cX1_cond 9 = .ok (.aload_n 1, 1) := dk_43 (dk_at dksX1_cond_0 9 rfl rfl)
theorem dX1_cond_10 : decode cX1_cond 10 = .ok (.getfield 346, 3) := dk_180 1 90 (dk_at dksX1_cond_0 10 rfl rfl)
theorem dX1_cond_13 : decode cX1_cond 13 = .ok (.aload_n 0, 1) := dk_42 (dk_at dksX1_cond_0 13 rfl rfl)
theorem dX1_cond_14 : decode cX1_cond 14 = .ok (.invokevirtual 351, 3) := dk_182 1 95 (dk_at dksX1_cond_0 14 rfl rfl)
theorem dX1_cond_17 : decode cX1_cond 17 = .ok (.invokevirtual 304, 3) := dk_182 1 48 (dk_at dksX1_cond_0 17 rfl rfl)
theorem dX1_cond_20 : decode cX1_cond 20 = .ok (.pop, 1) := dk_87 (dk_at dksX1_cond_0 20 rfl rfl)
theorem dX1_cond_21 : decode cX1_cond 21 = .ok (.aload_n 0, 1) := dk_42 (dk_at dksX1_cond_0 21 rfl rfl)
theorem dX1_cond_22 : decode cX1_cond 22 = .ok (.getfield 25, 3) := dk_180 0 25 (dk_at dksX1_cond_1 0 rfl rfl)
theorem dX1_cond_25 : decode cX1_cond 25 = .ok (.ldc_w 354, 3) := dk_19 1 98 (dk_at dksX1_cond_1 3 rfl rfl)
theorem dX1_cond_28 : decode cX1_cond 28 = .ok (.invokevirtual 182, 3) := dk_182 0 182 (dk_at dksX1_cond_1 6 rfl rfl)
theorem dX1_cond_31 : decode cX1_cond 31 = .ok (.ifCond .ne (-22), 3) := dk_154 255 234 (dk_at dksX1_cond_1 9 rfl rfl)
theorem dX1_cond_34 : decode cX1_cond 34 = .ok (.aload_n 1, 1) := dk_43 (dk_at dksX1_cond_1 12 rfl rfl)
theorem dX1_cond_35 : decode cX1_cond 35 = .ok (.areturn, 1) := dk_176 (dk_at dksX1_cond_1 13 rfl rfl)
abbrev cX1_allOf : ByteArray := prog_1_method_22_code
def yX1_allOf : MethodName := ⟨RX1, "allOf", "()LVisitingHours$Cond;"⟩
def dkwX1_allOf_1 : List UInt8 := [180, 0, 25, 19, 1, 93, 182, 0, 182, 154, 255, 234, 43, 176]
abbrev dktX1_allOf_1 : List UInt8 := dkwX1_allOf_1 ++ []
def dkwX1_allOf_0 : List UInt8 := [187, 1, 87, 89, 4, 183, 1, 89, 76, 43, 180, 1, 90, 42, 182, 1, 61, 182, 1, 48, 87, 42]
abbrev dktX1_allOf_0 : List UInt8 := dkwX1_allOf_0 ++ dktX1_allOf_1
theorem dksX1_allOf_0 : cX1_allOf.data.toList.drop 0 = dktX1_allOf_0 := by decide +kernel
theorem dksX1_allOf_1 : cX1_allOf.data.toList.drop 22 = dktX1_allOf_1 := dk_seg dksX1_allOf_0 22 rfl rfl
theorem dX1_allOf_0 : decode cX1_allOf 0 = .ok (.new 343, 3) := dk_187 1 87 (dk_at dksX1_allOf_0 0 rfl rfl)
theorem dX1_allOf_3 : decode cX1_allOf 3 = .ok (.dup, 1) := dk_89 (dk_at dksX1_allOf_0 3 rfl rfl)
theorem dX1_allOf_4 : decode cX1_allOf 4 = .ok (.iconst 1, 1) := dk_4 (dk_at dksX1_allOf_0 4 rfl rfl)
theorem dX1_allOf_5 : decode cX1_allOf 5 = .ok (.invokespecial 345, 3) := dk_183 1 89 (dk_at dksX1_allOf_0 5 rfl rfl)
theorem dX1_allOf_8 : decode cX1_allOf 8 = .ok (.astore_n 1, 1) := dk_76 (dk_at dksX1_allOf_0 8 rfl rfl)
theorem dX1_allOf_9 : decode cX1_allOf 9 = .ok (.aload_n 1, 1) := dk_43 (dk_at dksX1_allOf_0 9 rfl rfl)
theorem dX1_allOf_10 : decode cX1_allOf 10 = .ok (.getfield 346, 3) := dk_180 1 90 (dk_at dksX1_allOf_0 10 rfl rfl)
theorem dX1_allOf_13 : decode cX1_allOf 13 = .ok (.aload_n 0, 1) := dk_42 (dk_at dksX1_allOf_0 13 rfl rfl)
theorem dX1_allOf_14 : decode cX1_allOf 14 = .ok (.invokevirtual 317, 3) := dk_182 1 61 (dk_at dksX1_allOf_0 14 rfl rfl)
theorem dX1_allOf_17 : decode cX1_allOf 17 = .ok (.invokevirtual 304, 3) := dk_182 1 48 (dk_at dksX1_allOf_0 17 rfl rfl)
theorem dX1_allOf_20 : decode cX1_allOf 20 = .ok (.pop, 1) := dk_87 (dk_at dksX1_allOf_0 20 rfl rfl)
theorem dX1_allOf_21 : decode cX1_allOf 21 = .ok (.aload_n 0, 1) := dk_42 (dk_at dksX1_allOf_0 21 rfl rfl)
theorem dX1_allOf_22 : decode cX1_allOf 22 = .ok (.getfield 25, 3) := dk_180 0 25 (dk_at dksX1_allOf_1 0 rfl rfl)
theorem dX1_allOf_25 : decode cX1_allOf 25 = .ok (.ldc_w 349, 3) := dk_19 1 93 (dk_at dksX1_allOf_1 3 rfl rfl)
theorem dX1_allOf_28 : decode cX1_allOf 28 = .ok (.invokevirtual 182, 3) := dk_182 0 182 (dk_at dksX1_allOf_1 6 rfl rfl)
theorem dX1_allOf_31 : decode cX1_allOf 31 = .ok (.ifCond .ne (-22), 3) := dk_154 255 234 (dk_at dksX1_allOf_1 9 rfl rfl)
theorem dX1_allOf_34 : decode cX1_allOf 34 = .ok (.aload_n 1, 1) := dk_43 (dk_at dksX1_allOf_1 12 rfl rfl)
theorem dX1_allOf_35 : decode cX1_allOf 35 = .ok (.areturn, 1) := dk_176 (dk_at dksX1_allOf_1 13 rfl rfl)
abbrev cX1_atom : ByteArray := prog_1_method_21_code
def yX1_atom : MethodName := ⟨RX1, "atom", "()LVisitingHours$Cond;"⟩
def dkwX1_atom_6 : List UInt8 := [182, 0, 247, 154, 0, 8, 43, 182, 0, 96, 191, 187, 1, 82, 89, 42, 182, 1, 78, 44, 183, 1, 84, 176]
abbrev dktX1_atom_6 : List UInt8 := dkwX1_atom_6 ++ []
def dkwX1_atom_5 : List UInt8 := [16, 60, 182, 0, 247, 153, 0, 16, 187, 1, 82, 89, 44, 42, 182, 1, 78, 183, 1, 84, 176, 43, 16, 62]
abbrev dktX1_atom_5 : List UInt8 := dkwX1_atom_5 ++ dktX1_atom_6
def dkwX1_atom_4 : List UInt8 := [19, 1, 76, 182, 0, 182, 153, 0, 12, 187, 1, 71, 89, 3, 183, 1, 73, 176, 42, 182, 1, 78, 77, 43]
abbrev dktX1_atom_4 : List UInt8 := dkwX1_atom_4 ++ dktX1_atom_5
def dkwX1_atom_3 : List UInt8 := [183, 1, 66, 176, 43, 19, 1, 69, 182, 0, 182, 153, 0, 12, 187, 1, 71, 89, 4, 183, 1, 73, 176, 43]
abbrev dktX1_atom_3 : List UInt8 := dkwX1_atom_3 ++ dktX1_atom_4
def dkwX1_atom_2 : List UInt8 := [182, 0, 182, 153, 0, 25, 43, 182, 1, 50, 42, 182, 1, 61, 77, 43, 182, 1, 57, 187, 1, 64, 89, 44]
abbrev dktX1_atom_2 : List UInt8 := dkwX1_atom_2 ++ dktX1_atom_3
def dkwX1_atom_1 : List UInt8 := [182, 1, 57, 43, 16, 41, 182, 0, 247, 154, 0, 8, 43, 182, 0, 96, 191, 44, 176, 43, 19, 1, 60]
abbrev dktX1_atom_1 : List UInt8 := dkwX1_atom_1 ++ dktX1_atom_2
def dkwX1_atom_0 : List UInt8 := [42, 180, 0, 25, 76, 43, 16, 40, 182, 0, 247, 153, 0, 32, 43, 182, 1, 50, 42, 182, 1, 53, 77, 43]
abbrev dktX1_atom_0 : List UInt8 := dkwX1_atom_0 ++ dktX1_atom_1
theorem dksX1_atom_0 : cX1_atom.data.toList.drop 0 = dktX1_atom_0 := by decide +kernel
theorem dksX1_atom_1 : cX1_atom.data.toList.drop 24 = dktX1_atom_1 := dk_seg dksX1_atom_0 24 rfl rfl
theorem dksX1_atom_2 : cX1_atom.data.toList.drop 47 = dktX1_atom_2 := dk_seg dksX1_atom_1 23 rfl rfl
theorem dksX1_atom_3 : cX1_atom.data.toList.drop 71 = dktX1_atom_3 := dk_seg dksX1_atom_2 24 rfl rfl
theorem dksX1_atom_4 : cX1_atom.data.toList.drop 95 = dktX1_atom_4 := dk_seg dksX1_atom_3 24 rfl rfl
theorem dksX1_atom_5 : cX1_atom.data.toList.drop 119 = dktX1_atom_5 := dk_seg dksX1_atom_4 24 rfl rfl
theorem dksX1_atom_6 : cX1_atom.data.toList.drop 143 = dktX1_atom_6 := dk_seg dksX1_atom_5 24 rfl rfl
theorem dX1_atom_0 : decode cX1_atom 0 = .ok (.aload_n 0, 1) := dk_42 (dk_at dksX1_atom_0 0 rfl rfl)
theorem dX1_atom_1 : decode cX1_atom 1 = .ok (.getfield 25, 3) := dk_180 0 25 (dk_at dksX1_atom_0 1 rfl rfl)
theorem dX1_atom_4 : decode cX1_atom 4 = .ok (.astore_n 1, 1) := dk_76 (dk_at dksX1_atom_0 4 rfl rfl)
theorem dX1_atom_5 : decode cX1_atom 5 = .ok (.aload_n 1, 1) := dk_43 (dk_at dksX1_atom_0 5 rfl rfl)
theorem dX1_atom_6 : decode cX1_atom 6 = .ok (.bipush 40, 2) := dk_16 40 (dk_at dksX1_atom_0 6 rfl rfl)
theorem dX1_atom_8 : decode cX1_atom 8 = .ok (.invokevirtual 247, 3) := dk_182 0 247 (dk_at dksX1_atom_0 8 rfl rfl)
theorem dX1_atom_11 : decode cX1_atom 11 = .ok (.ifCond .eq 32, 3) := dk_153 0 32 (dk_at dksX1_atom_0 11 rfl rfl)
theorem dX1_atom_14 : decode cX1_atom 14 = .ok (.aload_n 1, 1) := dk_43 (dk_at dksX1_atom_0 14 rfl rfl)
theorem dX1_atom_15 : decode cX1_atom 15 = .ok (.invokevirtual 306, 3) := dk_182 1 50 (dk_at dksX1_atom_0 15 rfl rfl)
theorem dX1_atom_18 : decode cX1_atom 18 = .ok (.aload_n 0, 1) := dk_42 (dk_at dksX1_atom_0 18 rfl rfl)
theorem dX1_atom_19 : decode cX1_atom 19 = .ok (.invokevirtual 309, 3) := dk_182 1 53 (dk_at dksX1_atom_0 19 rfl rfl)
theorem dX1_atom_22 : decode cX1_atom 22 = .ok (.astore_n 2, 1) := dk_77 (dk_at dksX1_atom_0 22 rfl rfl)
theorem dX1_atom_23 : decode cX1_atom 23 = .ok (.aload_n 1, 1) := dk_43 (dk_at dksX1_atom_0 23 rfl rfl)
theorem dX1_atom_24 : decode cX1_atom 24 = .ok (.invokevirtual 313, 3) := dk_182 1 57 (dk_at dksX1_atom_1 0 rfl rfl)
theorem dX1_atom_27 : decode cX1_atom 27 = .ok (.aload_n 1, 1) := dk_43 (dk_at dksX1_atom_1 3 rfl rfl)
theorem dX1_atom_28 : decode cX1_atom 28 = .ok (.bipush 41, 2) := dk_16 41 (dk_at dksX1_atom_1 4 rfl rfl)
theorem dX1_atom_30 : decode cX1_atom 30 = .ok (.invokevirtual 247, 3) := dk_182 0 247 (dk_at dksX1_atom_1 6 rfl rfl)
theorem dX1_atom_33 : decode cX1_atom 33 = .ok (.ifCond .ne 8, 3) := dk_154 0 8 (dk_at dksX1_atom_1 9 rfl rfl)
theorem dX1_atom_36 : decode cX1_atom 36 = .ok (.aload_n 1, 1) := dk_43 (dk_at dksX1_atom_1 12 rfl rfl)
theorem dX1_atom_37 : decode cX1_atom 37 = .ok (.invokevirtual 96, 3) := dk_182 0 96 (dk_at dksX1_atom_1 13 rfl rfl)
theorem dX1_atom_40 : decode cX1_atom 40 = .ok (.athrow, 1) := dk_191 (dk_at dksX1_atom_1 16 rfl rfl)
theorem dX1_atom_41 : decode cX1_atom 41 = .ok (.aload_n 2, 1) := dk_44 (dk_at dksX1_atom_1 17 rfl rfl)
theorem dX1_atom_42 : decode cX1_atom 42 = .ok (.areturn, 1) := dk_176 (dk_at dksX1_atom_1 18 rfl rfl)
theorem dX1_atom_43 : decode cX1_atom 43 = .ok (.aload_n 1, 1) := dk_43 (dk_at dksX1_atom_1 19 rfl rfl)
theorem dX1_atom_44 : decode cX1_atom 44 = .ok (.ldc_w 316, 3) := dk_19 1 60 (dk_at dksX1_atom_1 20 rfl rfl)
theorem dX1_atom_47 : decode cX1_atom 47 = .ok (.invokevirtual 182, 3) := dk_182 0 182 (dk_at dksX1_atom_2 0 rfl rfl)
theorem dX1_atom_50 : decode cX1_atom 50 = .ok (.ifCond .eq 25, 3) := dk_153 0 25 (dk_at dksX1_atom_2 3 rfl rfl)
theorem dX1_atom_53 : decode cX1_atom 53 = .ok (.aload_n 1, 1) := dk_43 (dk_at dksX1_atom_2 6 rfl rfl)
theorem dX1_atom_54 : decode cX1_atom 54 = .ok (.invokevirtual 306, 3) := dk_182 1 50 (dk_at dksX1_atom_2 7 rfl rfl)
theorem dX1_atom_57 : decode cX1_atom 57 = .ok (.aload_n 0, 1) := dk_42 (dk_at dksX1_atom_2 10 rfl rfl)
theorem dX1_atom_58 : decode cX1_atom 58 = .ok (.invokevirtual 317, 3) := dk_182 1 61 (dk_at dksX1_atom_2 11 rfl rfl)
theorem dX1_atom_61 : decode cX1_atom 61 = .ok (.astore_n 2, 1) := dk_77 (dk_at dksX1_atom_2 14 rfl rfl)
theorem dX1_atom_62 : decode cX1_atom 62 = .ok (.aload_n 1, 1) := dk_43 (dk_at dksX1_atom_2 15 rfl rfl)
theorem dX1_atom_63 : decode cX1_atom 63 = .ok (.invokevirtual 313, 3) := dk_182 1 57 (dk_at dksX1_atom_2 16 rfl rfl)
theorem dX1_atom_66 : decode cX1_atom 66 = .ok (.new 320, 3) := dk_187 1 64 (dk_at dksX1_atom_2 19 rfl rfl)
theorem dX1_atom_69 : decode cX1_atom 69 = .ok (.dup, 1) := dk_89 (dk_at dksX1_atom_2 22 rfl rfl)
theorem dX1_atom_70 : decode cX1_atom 70 = .ok (.aload_n 2, 1) := dk_44 (dk_at dksX1_atom_2 23 rfl rfl)
theorem dX1_atom_71 : decode cX1_atom 71 = .ok (.invokespecial 322, 3) := dk_183 1 66 (dk_at dksX1_atom_3 0 rfl rfl)
theorem dX1_atom_74 : decode cX1_atom 74 = .ok (.areturn, 1) := dk_176 (dk_at dksX1_atom_3 3 rfl rfl)
theorem dX1_atom_75 : decode cX1_atom 75 = .ok (.aload_n 1, 1) := dk_43 (dk_at dksX1_atom_3 4 rfl rfl)
theorem dX1_atom_76 : decode cX1_atom 76 = .ok (.ldc_w 325, 3) := dk_19 1 69 (dk_at dksX1_atom_3 5 rfl rfl)
theorem dX1_atom_79 : decode cX1_atom 79 = .ok (.invokevirtual 182, 3) := dk_182 0 182 (dk_at dksX1_atom_3 8 rfl rfl)
theorem dX1_atom_82 : decode cX1_atom 82 = .ok (.ifCond .eq 12, 3) := dk_153 0 12 (dk_at dksX1_atom_3 11 rfl rfl)
theorem dX1_atom_85 : decode cX1_atom 85 = .ok (.new 327, 3) := dk_187 1 71 (dk_at dksX1_atom_3 14 rfl rfl)
theorem dX1_atom_88 : decode cX1_atom 88 = .ok (.dup, 1) := dk_89 (dk_at dksX1_atom_3 17 rfl rfl)
theorem dX1_atom_89 : decode cX1_atom 89 = .ok (.iconst 1, 1) := dk_4 (dk_at dksX1_atom_3 18 rfl rfl)
theorem dX1_atom_90 : decode cX1_atom 90 = .ok (.invokespecial 329, 3) := dk_183 1 73 (dk_at dksX1_atom_3 19 rfl rfl)
theorem dX1_atom_93 : decode cX1_atom 93 = .ok (.areturn, 1) := dk_176 (dk_at dksX1_atom_3 22 rfl rfl)
theorem dX1_atom_94 : decode cX1_atom 94 = .ok (.aload_n 1, 1) := dk_43 (dk_at dksX1_atom_3 23 rfl rfl)
theorem dX1_atom_95 : decode cX1_atom 95 = .ok (.ldc_w 332, 3) := dk_19 1 76 (dk_at dksX1_atom_4 0 rfl rfl)
theorem dX1_atom_98 : decode cX1_atom 98 = .ok (.invokevirtual 182, 3) := dk_182 0 182 (dk_at dksX1_atom_4 3 rfl rfl)
theorem dX1_atom_101 : decode cX1_atom 101 = .ok (.ifCond .eq 12, 3) := dk_153 0 12 (dk_at dksX1_atom_4 6 rfl rfl)
theorem dX1_atom_104 : decode cX1_atom 104 = .ok (.new 327, 3) := dk_187 1 71 (dk_at dksX1_atom_4 9 rfl rfl)
theorem dX1_atom_107 : decode cX1_atom 107 = .ok (.dup, 1) := dk_89 (dk_at dksX1_atom_4 12 rfl rfl)
theorem dX1_atom_108 : decode cX1_atom 108 = .ok (.iconst 0, 1) := dk_3 (dk_at dksX1_atom_4 13 rfl rfl)
theorem dX1_atom_109 : decode cX1_atom 109 = .ok (.invokespecial 329, 3) := dk_183 1 73 (dk_at dksX1_atom_4 14 rfl rfl)
theorem dX1_atom_112 : decode cX1_atom 112 = .ok (.areturn, 1) := dk_176 (dk_at dksX1_atom_4 17 rfl rfl)
theorem dX1_atom_113 : decode cX1_atom 113 = .ok (.aload_n 0, 1) := dk_42 (dk_at dksX1_atom_4 18 rfl rfl)
theorem dX1_atom_114 : decode cX1_atom 114 = .ok (.invokevirtual 334, 3) := dk_182 1 78 (dk_at dksX1_atom_4 19 rfl rfl)
theorem dX1_atom_117 : decode cX1_atom 117 = .ok (.astore_n 2, 1) := dk_77 (dk_at dksX1_atom_4 22 rfl rfl)
theorem dX1_atom_118 : decode cX1_atom 118 = .ok (.aload_n 1, 1) := dk_43 (dk_at dksX1_atom_4 23 rfl rfl)
theorem dX1_atom_119 : decode cX1_atom 119 = .ok (.bipush 60, 2) := dk_16 60 (dk_at dksX1_atom_5 0 rfl rfl)
theorem dX1_atom_121 : decode cX1_atom 121 = .ok (.invokevirtual 247, 3) := dk_182 0 247 (dk_at dksX1_atom_5 2 rfl rfl)
theorem dX1_atom_124 : decode cX1_atom 124 = .ok (.ifCond .eq 16, 3) := dk_153 0 16 (dk_at dksX1_atom_5 5 rfl rfl)
theorem dX1_atom_127 : decode cX1_atom 127 = .ok (.new 338, 3) := dk_187 1 82 (dk_at dksX1_atom_5 8 rfl rfl)
theorem dX1_atom_130 : decode cX1_atom 130 = .ok (.dup, 1) := dk_89 (dk_at dksX1_atom_5 11 rfl rfl)
theorem dX1_atom_131 : decode cX1_atom 131 = .ok (.aload_n 2, 1) := dk_44 (dk_at dksX1_atom_5 12 rfl rfl)
theorem dX1_atom_132 : decode cX1_atom 132 = .ok (.aload_n 0, 1) := dk_42 (dk_at dksX1_atom_5 13 rfl rfl)
theorem dX1_atom_133 : decode cX1_atom 133 = .ok (.invokevirtual 334, 3) := dk_182 1 78 (dk_at dksX1_atom_5 14 rfl rfl)
theorem dX1_atom_136 : decode cX1_atom 136 = .ok (.invokespecial 340, 3) := dk_183 1 84 (dk_at dksX1_atom_5 17 rfl rfl)
theorem dX1_atom_139 : decode cX1_atom 139 = .ok (.areturn, 1) := dk_176 (dk_at dksX1_atom_5 20 rfl rfl)
theorem dX1_atom_140 : decode cX1_atom 140 = .ok (.aload_n 1, 1) := dk_43 (dk_at dksX1_atom_5 21 rfl rfl)
theorem dX1_atom_141 : decode cX1_atom 141 = .ok (.bipush 62, 2) := dk_16 62 (dk_at dksX1_atom_5 22 rfl rfl)
theorem dX1_atom_143 : decode cX1_atom 143 = .ok (.invokevirtual 247, 3) := dk_182 0 247 (dk_at dksX1_atom_6 0 rfl rfl)
theorem dX1_atom_146 : decode cX1_atom 146 = .ok (.ifCond .ne 8, 3) := dk_154 0 8 (dk_at dksX1_atom_6 3 rfl rfl)
theorem dX1_atom_149 : decode cX1_atom 149 = .ok (.aload_n 1, 1) := dk_43 (dk_at dksX1_atom_6 6 rfl rfl)
theorem dX1_atom_150 : decode cX1_atom 150 = .ok (.invokevirtual 96, 3) := dk_182 0 96 (dk_at dksX1_atom_6 7 rfl rfl)
theorem dX1_atom_153 : decode cX1_atom 153 = .ok (.athrow, 1) := dk_191 (dk_at dksX1_atom_6 10 rfl rfl)
theorem dX1_atom_154 : decode cX1_atom 154 = .ok (.new 338, 3) := dk_187 1 82 (dk_at dksX1_atom_6 11 rfl rfl)
theorem dX1_atom_157 : decode cX1_atom 157 = .ok (.dup, 1) := dk_89 (dk_at dksX1_atom_6 14 rfl rfl)
theorem dX1_atom_158 : decode cX1_atom 158 = .ok (.aload_n 0, 1) := dk_42 (dk_at dksX1_atom_6 15 rfl rfl)
theorem dX1_atom_159 : decode cX1_atom 159 = .ok (.invokevirtual 334, 3) := dk_182 1 78 (dk_at dksX1_atom_6 16 rfl rfl)
theorem dX1_atom_162 : decode cX1_atom 162 = .ok (.aload_n 2, 1) := dk_44 (dk_at dksX1_atom_6 19 rfl rfl)
theorem dX1_atom_163 : decode cX1_atom 163 = .ok (.invokespecial 340, 3) := dk_183 1 84 (dk_at dksX1_atom_6 20 rfl rfl)
theorem dX1_atom_166 : decode cX1_atom 166 = .ok (.areturn, 1) := dk_176 (dk_at dksX1_atom_6 23 rfl rfl)
abbrev cX1_sum : ByteArray := prog_1_method_20_code
def yX1_sum : MethodName := ⟨RX1, "sum", "()LVisitingHours$Sum;"⟩
def dkwX1_sum_1 : List UInt8 := [16, 43, 182, 0, 247, 154, 255, 235, 43, 176]
abbrev dktX1_sum_1 : List UInt8 := dkwX1_sum_1 ++ []
def dkwX1_sum_0 : List UInt8 := [187, 1, 38, 89, 183, 1, 40, 76, 43, 180, 1, 41, 42, 182, 1, 44, 182, 1, 48, 87, 42, 180, 0, 25]
abbrev dktX1_sum_0 : List UInt8 := dkwX1_sum_0 ++ dktX1_sum_1
theorem dksX1_sum_0 : cX1_sum.data.toList.drop 0 = dktX1_sum_0 := by decide +kernel
theorem dksX1_sum_1 : cX1_sum.data.toList.drop 24 = dktX1_sum_1 := dk_seg dksX1_sum_0 24 rfl rfl
theorem dX1_sum_0 : decode cX1_sum 0 = .ok (.new 294, 3) := dk_187 1 38 (dk_at dksX1_sum_0 0 rfl rfl)
theorem dX1_sum_3 : decode cX1_sum 3 = .ok (.dup, 1) := dk_89 (dk_at dksX1_sum_0 3 rfl rfl)
theorem dX1_sum_4 : decode cX1_sum 4 = .ok (.invokespecial 296, 3) := dk_183 1 40 (dk_at dksX1_sum_0 4 rfl rfl)
theorem dX1_sum_7 : decode cX1_sum 7 = .ok (.astore_n 1, 1) := dk_76 (dk_at dksX1_sum_0 7 rfl rfl)
theorem dX1_sum_8 : decode cX1_sum 8 = .ok (.aload_n 1, 1) := dk_43 (dk_at dksX1_sum_0 8 rfl rfl)
theorem dX1_sum_9 : decode cX1_sum 9 = .ok (.getfield 297, 3) := dk_180 1 41 (dk_at dksX1_sum_0 9 rfl rfl)
theorem dX1_sum_12 : decode cX1_sum 12 = .ok (.aload_n 0, 1) := dk_42 (dk_at dksX1_sum_0 12 rfl rfl)
theorem dX1_sum_13 : decode cX1_sum 13 = .ok (.invokevirtual 300, 3) := dk_182 1 44 (dk_at dksX1_sum_0 13 rfl rfl)
theorem dX1_sum_16 : decode cX1_sum 16 = .ok (.invokevirtual 304, 3) := dk_182 1 48 (dk_at dksX1_sum_0 16 rfl rfl)
theorem dX1_sum_19 : decode cX1_sum 19 = .ok (.pop, 1) := dk_87 (dk_at dksX1_sum_0 19 rfl rfl)
theorem dX1_sum_20 : decode cX1_sum 20 = .ok (.aload_n 0, 1) := dk_42 (dk_at dksX1_sum_0 20 rfl rfl)
theorem dX1_sum_21 : decode cX1_sum 21 = .ok (.getfield 25, 3) := dk_180 0 25 (dk_at dksX1_sum_0 21 rfl rfl)
theorem dX1_sum_24 : decode cX1_sum 24 = .ok (.bipush 43, 2) := dk_16 43 (dk_at dksX1_sum_1 0 rfl rfl)
theorem dX1_sum_26 : decode cX1_sum 26 = .ok (.invokevirtual 247, 3) := dk_182 0 247 (dk_at dksX1_sum_1 2 rfl rfl)
theorem dX1_sum_29 : decode cX1_sum 29 = .ok (.ifCond .ne (-21), 3) := dk_154 255 235 (dk_at dksX1_sum_1 5 rfl rfl)
theorem dX1_sum_32 : decode cX1_sum 32 = .ok (.aload_n 1, 1) := dk_43 (dk_at dksX1_sum_1 8 rfl rfl)
theorem dX1_sum_33 : decode cX1_sum 33 = .ok (.areturn, 1) := dk_176 (dk_at dksX1_sum_1 9 rfl rfl)
abbrev cX1_onePart : ByteArray := prog_1_method_19_code
def yX1_onePart : MethodName := ⟨RX1, "onePart", "()LVisitingHours$Part;"⟩
def dkwX1_onePart_2 : List UInt8 := [180, 0, 25, 182, 0, 96, 191, 187, 1, 27, 89, 3, 43, 183, 1, 29, 176]
abbrev dktX1_onePart_2 : List UInt8 := dkwX1_onePart_2 ++ []
def dkwX1_onePart_1 : List UInt8 := [182, 0, 104, 1, 183, 1, 29, 176, 42, 180, 0, 25, 182, 0, 86, 184, 1, 32, 76, 43, 199, 0, 11, 42]
abbrev dktX1_onePart_1 : List UInt8 := dkwX1_onePart_1 ++ dktX1_onePart_2
def dkwX1_onePart_0 : List UInt8 := [42, 180, 0, 25, 182, 1, 24, 153, 0, 23, 187, 1, 27, 89, 42, 180, 0, 25, 3, 17, 3, 231]
abbrev dktX1_onePart_0 : List UInt8 := dkwX1_onePart_0 ++ dktX1_onePart_1
theorem dksX1_onePart_0 : cX1_onePart.data.toList.drop 0 = dktX1_onePart_0 := by decide +kernel
theorem dksX1_onePart_1 : cX1_onePart.data.toList.drop 22 = dktX1_onePart_1 := dk_seg dksX1_onePart_0 22 rfl rfl
theorem dksX1_onePart_2 : cX1_onePart.data.toList.drop 46 = dktX1_onePart_2 := dk_seg dksX1_onePart_1 24 rfl rfl
theorem dX1_onePart_0 : decode cX1_onePart 0 = .ok (.aload_n 0, 1) := dk_42 (dk_at dksX1_onePart_0 0 rfl rfl)
theorem dX1_onePart_1 : decode cX1_onePart 1 = .ok (.getfield 25, 3) := dk_180 0 25 (dk_at dksX1_onePart_0 1 rfl rfl)
theorem dX1_onePart_4 : decode cX1_onePart 4 = .ok (.invokevirtual 280, 3) := dk_182 1 24 (dk_at dksX1_onePart_0 4 rfl rfl)
theorem dX1_onePart_7 : decode cX1_onePart 7 = .ok (.ifCond .eq 23, 3) := dk_153 0 23 (dk_at dksX1_onePart_0 7 rfl rfl)
theorem dX1_onePart_10 : decode cX1_onePart 10 = .ok (.new 283, 3) := dk_187 1 27 (dk_at dksX1_onePart_0 10 rfl rfl)
theorem dX1_onePart_13 : decode cX1_onePart 13 = .ok (.dup, 1) := dk_89 (dk_at dksX1_onePart_0 13 rfl rfl)
theorem dX1_onePart_14 : decode cX1_onePart 14 = .ok (.aload_n 0, 1) := dk_42 (dk_at dksX1_onePart_0 14 rfl rfl)
theorem dX1_onePart_15 : decode cX1_onePart 15 = .ok (.getfield 25, 3) := dk_180 0 25 (dk_at dksX1_onePart_0 15 rfl rfl)
theorem dX1_onePart_18 : decode cX1_onePart 18 = .ok (.iconst 0, 1) := dk_3 (dk_at dksX1_onePart_0 18 rfl rfl)
theorem dX1_onePart_19 : decode cX1_onePart 19 = .ok (.sipush 999, 3) := dk_17 3 231 (dk_at dksX1_onePart_0 19 rfl rfl)
theorem dX1_onePart_22 : decode cX1_onePart 22 = .ok (.invokevirtual 104, 3) := dk_182 0 104 (dk_at dksX1_onePart_1 0 rfl rfl)
theorem dX1_onePart_25 : decode cX1_onePart 25 = .ok (.aconst_null, 1) := dk_1 (dk_at dksX1_onePart_1 3 rfl rfl)
theorem dX1_onePart_26 : decode cX1_onePart 26 = .ok (.invokespecial 285, 3) := dk_183 1 29 (dk_at dksX1_onePart_1 4 rfl rfl)
theorem dX1_onePart_29 : decode cX1_onePart 29 = .ok (.areturn, 1) := dk_176 (dk_at dksX1_onePart_1 7 rfl rfl)
theorem dX1_onePart_30 : decode cX1_onePart 30 = .ok (.aload_n 0, 1) := dk_42 (dk_at dksX1_onePart_1 8 rfl rfl)
theorem dX1_onePart_31 : decode cX1_onePart 31 = .ok (.getfield 25, 3) := dk_180 0 25 (dk_at dksX1_onePart_1 9 rfl rfl)
theorem dX1_onePart_34 : decode cX1_onePart 34 = .ok (.invokevirtual 86, 3) := dk_182 0 86 (dk_at dksX1_onePart_1 12 rfl rfl)
theorem dX1_onePart_37 : decode cX1_onePart 37 = .ok (.invokestatic 288, 3) := dk_184 1 32 (dk_at dksX1_onePart_1 15 rfl rfl)
theorem dX1_onePart_40 : decode cX1_onePart 40 = .ok (.astore_n 1, 1) := dk_76 (dk_at dksX1_onePart_1 18 rfl rfl)
theorem dX1_onePart_41 : decode cX1_onePart 41 = .ok (.aload_n 1, 1) := dk_43 (dk_at dksX1_onePart_1 19 rfl rfl)
theorem dX1_onePart_42 : decode cX1_onePart 42 = .ok (.ifnonnull 11, 3) := dk_199 0 11 (dk_at dksX1_onePart_1 20 rfl rfl)
theorem dX1_onePart_45 : decode cX1_onePart 45 = .ok (.aload_n 0, 1) := dk_42 (dk_at dksX1_onePart_1 23 rfl rfl)
theorem dX1_onePart_46 : decode cX1_onePart 46 = .ok (.getfield 25, 3) := dk_180 0 25 (dk_at dksX1_onePart_2 0 rfl rfl)
theorem dX1_onePart_49 : decode cX1_onePart 49 = .ok (.invokevirtual 96, 3) := dk_182 0 96 (dk_at dksX1_onePart_2 3 rfl rfl)
theorem dX1_onePart_52 : decode cX1_onePart 52 = .ok (.athrow, 1) := dk_191 (dk_at dksX1_onePart_2 6 rfl rfl)
theorem dX1_onePart_53 : decode cX1_onePart 53 = .ok (.new 283, 3) := dk_187 1 27 (dk_at dksX1_onePart_2 7 rfl rfl)
theorem dX1_onePart_56 : decode cX1_onePart 56 = .ok (.dup, 1) := dk_89 (dk_at dksX1_onePart_2 10 rfl rfl)
theorem dX1_onePart_57 : decode cX1_onePart 57 = .ok (.iconst 0, 1) := dk_3 (dk_at dksX1_onePart_2 11 rfl rfl)
theorem dX1_onePart_58 : decode cX1_onePart 58 = .ok (.aload_n 1, 1) := dk_43 (dk_at dksX1_onePart_2 12 rfl rfl)
theorem dX1_onePart_59 : decode cX1_onePart 59 = .ok (.invokespecial 285, 3) := dk_183 1 29 (dk_at dksX1_onePart_2 13 rfl rfl)
theorem dX1_onePart_62 : decode cX1_onePart 62 = .ok (.areturn, 1) := dk_176 (dk_at dksX1_onePart_2 16 rfl rfl)
abbrev cX1_host : ByteArray := prog_1_method_47_code
def yX1_host : MethodName := ⟨RX1, "host", "(II)I"⟩
def dkwX1_host_3 : List UInt8 := [180, 0, 148, 27, 46, 172, 45, 27, 182, 1, 251, 172, 45, 27, 182, 1, 254, 172, 42, 27, 182, 2, 1, 172]
abbrev dktX1_host_3 : List UInt8 := dkwX1_host_3 ++ []
def dkwX1_host_2 : List UInt8 := [45, 180, 0, 135, 27, 46, 172, 45, 180, 0, 139, 27, 46, 172, 45, 180, 0, 145, 27, 46, 172, 45]
abbrev dktX1_host_2 : List UInt8 := dkwX1_host_2 ++ dktX1_host_3
def dkwX1_host_1 : List UInt8 := [170, 0, 0, 0, 0, 0, 79, 0, 0, 0, 0, 0, 0, 0, 5, 0, 0, 0, 39, 0, 0, 0, 46, 0, 0, 0, 53, 0, 0, 0, 60, 0, 0, 0, 67, 0, 0, 0, 73]
abbrev dktX1_host_1 : List UInt8 := dkwX1_host_1 ++ dktX1_host_2
def dkwX1_host_0 : List UInt8 := [42, 27, 182, 1, 233, 28, 16, 6, 184, 1, 248, 42, 180, 0, 10, 78, 28]
abbrev dktX1_host_0 : List UInt8 := dkwX1_host_0 ++ dktX1_host_1
theorem dksX1_host_0 : cX1_host.data.toList.drop 0 = dktX1_host_0 := by decide +kernel
theorem dksX1_host_1 : cX1_host.data.toList.drop 17 = dktX1_host_1 := dk_seg dksX1_host_0 17 rfl rfl
theorem dksX1_host_2 : cX1_host.data.toList.drop 56 = dktX1_host_2 := dk_seg dksX1_host_1 39 rfl rfl
theorem dksX1_host_3 : cX1_host.data.toList.drop 78 = dktX1_host_3 := dk_seg dksX1_host_2 22 rfl rfl
theorem dX1_host_0 : decode cX1_host 0 = .ok (.aload_n 0, 1) := dk_42 (dk_at dksX1_host_0 0 rfl rfl)
theorem dX1_host_1 : decode cX1_host 1 = .ok (.iload_n 1, 1) := dk_27 (dk_at dksX1_host_0 1 rfl rfl)
theorem dX1_host_2 : decode cX1_host 2 = .ok (.invokevirtual 489, 3) := dk_182 1 233 (dk_at dksX1_host_0 2 rfl rfl)
theorem dX1_host_5 : decode cX1_host 5 = .ok (.iload_n 2, 1) := dk_28 (dk_at dksX1_host_0 5 rfl rfl)
theorem dX1_host_6 : decode cX1_host 6 = .ok (.bipush 6, 2) := dk_16 6 (dk_at dksX1_host_0 6 rfl rfl)
theorem dX1_host_8 : decode cX1_host 8 = .ok (.invokestatic 504, 3) := dk_184 1 248 (dk_at dksX1_host_0 8 rfl rfl)
theorem dX1_host_11 : decode cX1_host 11 = .ok (.aload_n 0, 1) := dk_42 (dk_at dksX1_host_0 11 rfl rfl)
theorem dX1_host_12 : decode cX1_host 12 = .ok (.getfield 10, 3) := dk_180 0 10 (dk_at dksX1_host_0 12 rfl rfl)
theorem dX1_host_15 : decode cX1_host 15 = .ok (.astore_n 3, 1) := dk_78 (dk_at dksX1_host_0 15 rfl rfl)
theorem dX1_host_16 : decode cX1_host 16 = .ok (.iload_n 2, 1) := dk_28 (dk_at dksX1_host_0 16 rfl rfl)
theorem dX1_host_17 : decode cX1_host 17 = .ok (.tableswitch 79 0 5 #[39, 46, 53, 60, 67, 73], 39) := by decide +kernel
theorem dX1_host_56 : decode cX1_host 56 = .ok (.aload_n 3, 1) := dk_45 (dk_at dksX1_host_2 0 rfl rfl)
theorem dX1_host_57 : decode cX1_host 57 = .ok (.getfield 135, 3) := dk_180 0 135 (dk_at dksX1_host_2 1 rfl rfl)
theorem dX1_host_60 : decode cX1_host 60 = .ok (.iload_n 1, 1) := dk_27 (dk_at dksX1_host_2 4 rfl rfl)
theorem dX1_host_61 : decode cX1_host 61 = .ok (.iaload, 1) := dk_46 (dk_at dksX1_host_2 5 rfl rfl)
theorem dX1_host_62 : decode cX1_host 62 = .ok (.ireturn, 1) := dk_172 (dk_at dksX1_host_2 6 rfl rfl)
theorem dX1_host_63 : decode cX1_host 63 = .ok (.aload_n 3, 1) := dk_45 (dk_at dksX1_host_2 7 rfl rfl)
theorem dX1_host_64 : decode cX1_host 64 = .ok (.getfield 139, 3) := dk_180 0 139 (dk_at dksX1_host_2 8 rfl rfl)
theorem dX1_host_67 : decode cX1_host 67 = .ok (.iload_n 1, 1) := dk_27 (dk_at dksX1_host_2 11 rfl rfl)
theorem dX1_host_68 : decode cX1_host 68 = .ok (.iaload, 1) := dk_46 (dk_at dksX1_host_2 12 rfl rfl)
theorem dX1_host_69 : decode cX1_host 69 = .ok (.ireturn, 1) := dk_172 (dk_at dksX1_host_2 13 rfl rfl)
theorem dX1_host_70 : decode cX1_host 70 = .ok (.aload_n 3, 1) := dk_45 (dk_at dksX1_host_2 14 rfl rfl)
theorem dX1_host_71 : decode cX1_host 71 = .ok (.getfield 145, 3) := dk_180 0 145 (dk_at dksX1_host_2 15 rfl rfl)
theorem dX1_host_74 : decode cX1_host 74 = .ok (.iload_n 1, 1) := dk_27 (dk_at dksX1_host_2 18 rfl rfl)
theorem dX1_host_75 : decode cX1_host 75 = .ok (.iaload, 1) := dk_46 (dk_at dksX1_host_2 19 rfl rfl)
theorem dX1_host_76 : decode cX1_host 76 = .ok (.ireturn, 1) := dk_172 (dk_at dksX1_host_2 20 rfl rfl)
theorem dX1_host_77 : decode cX1_host 77 = .ok (.aload_n 3, 1) := dk_45 (dk_at dksX1_host_2 21 rfl rfl)
theorem dX1_host_78 : decode cX1_host 78 = .ok (.getfield 148, 3) := dk_180 0 148 (dk_at dksX1_host_3 0 rfl rfl)
theorem dX1_host_81 : decode cX1_host 81 = .ok (.iload_n 1, 1) := dk_27 (dk_at dksX1_host_3 3 rfl rfl)
theorem dX1_host_82 : decode cX1_host 82 = .ok (.iaload, 1) := dk_46 (dk_at dksX1_host_3 4 rfl rfl)
theorem dX1_host_83 : decode cX1_host 83 = .ok (.ireturn, 1) := dk_172 (dk_at dksX1_host_3 5 rfl rfl)
theorem dX1_host_84 : decode cX1_host 84 = .ok (.aload_n 3, 1) := dk_45 (dk_at dksX1_host_3 6 rfl rfl)
theorem dX1_host_85 : decode cX1_host 85 = .ok (.iload_n 1, 1) := dk_27 (dk_at dksX1_host_3 7 rfl rfl)
theorem dX1_host_86 : decode cX1_host 86 = .ok (.invokevirtual 507, 3) := dk_182 1 251 (dk_at dksX1_host_3 8 rfl rfl)
theorem dX1_host_89 : decode cX1_host 89 = .ok (.ireturn, 1) := dk_172 (dk_at dksX1_host_3 11 rfl rfl)
theorem dX1_host_90 : decode cX1_host 90 = .ok (.aload_n 3, 1) := dk_45 (dk_at dksX1_host_3 12 rfl rfl)
theorem dX1_host_91 : decode cX1_host 91 = .ok (.iload_n 1, 1) := dk_27 (dk_at dksX1_host_3 13 rfl rfl)
theorem dX1_host_92 : decode cX1_host 92 = .ok (.invokevirtual 510, 3) := dk_182 1 254 (dk_at dksX1_host_3 14 rfl rfl)
theorem dX1_host_95 : decode cX1_host 95 = .ok (.ireturn, 1) := dk_172 (dk_at dksX1_host_3 17 rfl rfl)
theorem dX1_host_96 : decode cX1_host 96 = .ok (.aload_n 0, 1) := dk_42 (dk_at dksX1_host_3 18 rfl rfl)
theorem dX1_host_97 : decode cX1_host 97 = .ok (.iload_n 1, 1) := dk_27 (dk_at dksX1_host_3 19 rfl rfl)
theorem dX1_host_98 : decode cX1_host 98 = .ok (.invokevirtual 513, 3) := dk_182 2 1 (dk_at dksX1_host_3 20 rfl rfl)
theorem dX1_host_101 : decode cX1_host 101 = .ok (.ireturn, 1) := dk_172 (dk_at dksX1_host_3 23 rfl rfl)
abbrev cX1_hostAt : ByteArray := prog_1_method_38_code
def yX1_hostAt : MethodName := ⟨RX1, "hostAt", "(I)V"⟩
def dkwX1_hostAt_0 : List UInt8 := [27, 42, 180, 0, 10, 180, 0, 132, 184, 1, 230, 177]
abbrev dktX1_hostAt_0 : List UInt8 := dkwX1_hostAt_0 ++ []
theorem dksX1_hostAt_0 : cX1_hostAt.data.toList.drop 0 = dktX1_hostAt_0 := by decide +kernel
theorem dX1_hostAt_0 : decode cX1_hostAt 0 = .ok (.iload_n 1, 1) := dk_27 (dk_at dksX1_hostAt_0 0 rfl rfl)
theorem dX1_hostAt_1 : decode cX1_hostAt 1 = .ok (.aload_n 0, 1) := dk_42 (dk_at dksX1_hostAt_0 1 rfl rfl)
theorem dX1_hostAt_2 : decode cX1_hostAt 2 = .ok (.getfield 10, 3) := dk_180 0 10 (dk_at dksX1_hostAt_0 2 rfl rfl)
theorem dX1_hostAt_5 : decode cX1_hostAt 5 = .ok (.getfield 132, 3) := dk_180 0 132 (dk_at dksX1_hostAt_0 5 rfl rfl)
theorem dX1_hostAt_8 : decode cX1_hostAt 8 = .ok (.invokestatic 486, 3) := dk_184 1 230 (dk_at dksX1_hostAt_0 8 rfl rfl)
theorem dX1_hostAt_11 : decode cX1_hostAt 11 = .ok (.return_, 1) := dk_177 (dk_at dksX1_hostAt_0 11 rfl rfl)
abbrev cX1_there : ByteArray := prog_1_method_34_code
def yX1_there : MethodName := ⟨RX1, "there", "(II)V"⟩
def dkwX1_there_0 : List UInt8 := [26, 3, 27, 4, 100, 184, 0, 124, 154, 0, 11, 187, 1, 221, 89, 183, 1, 223, 191, 177]
abbrev dktX1_there_0 : List UInt8 := dkwX1_there_0 ++ []
theorem dksX1_there_0 : cX1_there.data.toList.drop 0 = dktX1_there_0 := by decide +kernel
theorem dX1_there_0 : decode cX1_there 0 = .ok (.iload_n 0, 1) := dk_26 (dk_at dksX1_there_0 0 rfl rfl)
theorem dX1_there_1 : decode cX1_there 1 = .ok (.iconst 0, 1) := dk_3 (dk_at dksX1_there_0 1 rfl rfl)
theorem dX1_there_2 : decode cX1_there 2 = .ok (.iload_n 1, 1) := dk_27 (dk_at dksX1_there_0 2 rfl rfl)
theorem dX1_there_3 : decode cX1_there 3 = .ok (.iconst 1, 1) := dk_4 (dk_at dksX1_there_0 3 rfl rfl)
theorem dX1_there_4 : decode cX1_there 4 = .ok (.isub, 1) := dk_100 (dk_at dksX1_there_0 4 rfl rfl)
theorem dX1_there_5 : decode cX1_there 5 = .ok (.invokestatic 124, 3) := dk_184 0 124 (dk_at dksX1_there_0 5 rfl rfl)
theorem dX1_there_8 : decode cX1_there 8 = .ok (.ifCond .ne 11, 3) := dk_154 0 11 (dk_at dksX1_there_0 8 rfl rfl)
theorem dX1_there_11 : decode cX1_there 11 = .ok (.new 477, 3) := dk_187 1 221 (dk_at dksX1_there_0 11 rfl rfl)
theorem dX1_there_14 : decode cX1_there 14 = .ok (.dup, 1) := dk_89 (dk_at dksX1_there_0 14 rfl rfl)
theorem dX1_there_15 : decode cX1_there 15 = .ok (.invokespecial 479, 3) := dk_183 1 223 (dk_at dksX1_there_0 15 rfl rfl)
theorem dX1_there_18 : decode cX1_there 18 = .ok (.athrow, 1) := dk_191 (dk_at dksX1_there_0 18 rfl rfl)
theorem dX1_there_19 : decode cX1_there 19 = .ok (.return_, 1) := dk_177 (dk_at dksX1_there_0 19 rfl rfl)
abbrev cX1_question : ByteArray := prog_1_method_37_code
def yX1_question : MethodName := ⟨RX1, "question", "(II)V"⟩
def dkwX1_question_0 : List UInt8 := [26, 3, 27, 184, 0, 124, 154, 0, 11, 187, 1, 227, 89, 183, 1, 229, 191, 177]
abbrev dktX1_question_0 : List UInt8 := dkwX1_question_0 ++ []
theorem dksX1_question_0 : cX1_question.data.toList.drop 0 = dktX1_question_0 := by decide +kernel
theorem dX1_question_0 : decode cX1_question 0 = .ok (.iload_n 0, 1) := dk_26 (dk_at dksX1_question_0 0 rfl rfl)
theorem dX1_question_1 : decode cX1_question 1 = .ok (.iconst 0, 1) := dk_3 (dk_at dksX1_question_0 1 rfl rfl)
theorem dX1_question_2 : decode cX1_question 2 = .ok (.iload_n 1, 1) := dk_27 (dk_at dksX1_question_0 2 rfl rfl)
theorem dX1_question_3 : decode cX1_question 3 = .ok (.invokestatic 124, 3) := dk_184 0 124 (dk_at dksX1_question_0 3 rfl rfl)
theorem dX1_question_6 : decode cX1_question 6 = .ok (.ifCond .ne 11, 3) := dk_154 0 11 (dk_at dksX1_question_0 6 rfl rfl)
theorem dX1_question_9 : decode cX1_question 9 = .ok (.new 483, 3) := dk_187 1 227 (dk_at dksX1_question_0 9 rfl rfl)
theorem dX1_question_12 : decode cX1_question 12 = .ok (.dup, 1) := dk_89 (dk_at dksX1_question_0 12 rfl rfl)
theorem dX1_question_13 : decode cX1_question 13 = .ok (.invokespecial 485, 3) := dk_183 1 229 (dk_at dksX1_question_0 13 rfl rfl)
theorem dX1_question_16 : decode cX1_question 16 = .ok (.athrow, 1) := dk_191 (dk_at dksX1_question_0 16 rfl rfl)
theorem dX1_question_17 : decode cX1_question 17 = .ok (.return_, 1) := dk_177 (dk_at dksX1_question_0 17 rfl rfl)
abbrev cX1_shareOf : ByteArray := prog_1_method_45_code
def yX1_shareOf : MethodName := ⟨RX1, "shareOf", "(I)I"⟩
def dkwX1_shareOf_1 : List UInt8 := [180, 0, 145, 27, 46, 104, 28, 108, 172]
abbrev dktX1_shareOf_1 : List UInt8 := dkwX1_shareOf_1 ++ []
def dkwX1_shareOf_0 : List UInt8 := [42, 180, 0, 10, 182, 1, 245, 61, 28, 154, 0, 7, 3, 167, 0, 17, 16, 100, 42, 180, 0, 10]
abbrev dktX1_shareOf_0 : List UInt8 := dkwX1_shareOf_0 ++ dktX1_shareOf_1
theorem dksX1_shareOf_0 : cX1_shareOf.data.toList.drop 0 = dktX1_shareOf_0 := by decide +kernel
theorem dksX1_shareOf_1 : cX1_shareOf.data.toList.drop 22 = dktX1_shareOf_1 := dk_seg dksX1_shareOf_0 22 rfl rfl
theorem dX1_shareOf_0 : decode cX1_shareOf 0 = .ok (.aload_n 0, 1) := dk_42 (dk_at dksX1_shareOf_0 0 rfl rfl)
theorem dX1_shareOf_1 : decode cX1_shareOf 1 = .ok (.getfield 10, 3) := dk_180 0 10 (dk_at dksX1_shareOf_0 1 rfl rfl)
theorem dX1_shareOf_4 : decode cX1_shareOf 4 = .ok (.invokevirtual 501, 3) := dk_182 1 245 (dk_at dksX1_shareOf_0 4 rfl rfl)
theorem dX1_shareOf_7 : decode cX1_shareOf 7 = .ok (.istore_n 2, 1) := dk_61 (dk_at dksX1_shareOf_0 7 rfl rfl)
theorem dX1_shareOf_8 : decode cX1_shareOf 8 = .ok (.iload_n 2, 1) := dk_28 (dk_at dksX1_shareOf_0 8 rfl rfl)
theorem dX1_shareOf_9 : decode cX1_shareOf 9 = .ok (.ifCond .ne 7, 3) := dk_154 0 7 (dk_at dksX1_shareOf_0 9 rfl rfl)
theorem dX1_shareOf_12 : decode cX1_shareOf 12 = .ok (.iconst 0, 1) := dk_3 (dk_at dksX1_shareOf_0 12 rfl rfl)
theorem dX1_shareOf_13 : decode cX1_shareOf 13 = .ok (.goto 17, 3) := dk_167 0 17 (dk_at dksX1_shareOf_0 13 rfl rfl)
theorem dX1_shareOf_16 : decode cX1_shareOf 16 = .ok (.bipush 100, 2) := dk_16 100 (dk_at dksX1_shareOf_0 16 rfl rfl)
theorem dX1_shareOf_18 : decode cX1_shareOf 18 = .ok (.aload_n 0, 1) := dk_42 (dk_at dksX1_shareOf_0 18 rfl rfl)
theorem dX1_shareOf_19 : decode cX1_shareOf 19 = .ok (.getfield 10, 3) := dk_180 0 10 (dk_at dksX1_shareOf_0 19 rfl rfl)
theorem dX1_shareOf_22 : decode cX1_shareOf 22 = .ok (.getfield 145, 3) := dk_180 0 145 (dk_at dksX1_shareOf_1 0 rfl rfl)
theorem dX1_shareOf_25 : decode cX1_shareOf 25 = .ok (.iload_n 1, 1) := dk_27 (dk_at dksX1_shareOf_1 3 rfl rfl)
theorem dX1_shareOf_26 : decode cX1_shareOf 26 = .ok (.iaload, 1) := dk_46 (dk_at dksX1_shareOf_1 4 rfl rfl)
theorem dX1_shareOf_27 : decode cX1_shareOf 27 = .ok (.imul, 1) := dk_104 (dk_at dksX1_shareOf_1 5 rfl rfl)
theorem dX1_shareOf_28 : decode cX1_shareOf 28 = .ok (.iload_n 2, 1) := dk_28 (dk_at dksX1_shareOf_1 6 rfl rfl)
theorem dX1_shareOf_29 : decode cX1_shareOf 29 = .ok (.idiv, 1) := dk_108 (dk_at dksX1_shareOf_1 7 rfl rfl)
theorem dX1_shareOf_30 : decode cX1_shareOf 30 = .ok (.ireturn, 1) := dk_172 (dk_at dksX1_shareOf_1 8 rfl rfl)
abbrev cX1_guest : ByteArray := prog_1_method_48_code
def yX1_guest : MethodName := ⟨RX1, "guest", "(II)I"⟩
def dkwX1_guest_3 : List UInt8 := [182, 2, 4, 172, 42, 27, 182, 2, 7, 172, 45, 27, 182, 1, 153, 153, 0, 7, 4, 167, 0, 4, 3, 172]
abbrev dktX1_guest_3 : List UInt8 := dkwX1_guest_3 ++ []
def dkwX1_guest_2 : List UInt8 := [45, 180, 0, 171, 27, 46, 172, 45, 180, 0, 175, 27, 46, 172, 45, 180, 0, 178, 27, 46, 172, 45, 27]
abbrev dktX1_guest_2 : List UInt8 := dkwX1_guest_2 ++ dktX1_guest_3
def dkwX1_guest_1 : List UInt8 := [170, 0, 0, 0, 0, 0, 0, 69, 0, 0, 0, 0, 0, 0, 0, 4, 0, 0, 0, 36, 0, 0, 0, 43, 0, 0, 0, 50, 0, 0, 0, 57, 0, 0, 0, 63]
abbrev dktX1_guest_1 : List UInt8 := dkwX1_guest_1 ++ dktX1_guest_2
def dkwX1_guest_0 : List UInt8 := [42, 27, 182, 1, 236, 28, 8, 184, 1, 248, 42, 180, 0, 10, 78, 28]
abbrev dktX1_guest_0 : List UInt8 := dkwX1_guest_0 ++ dktX1_guest_1
theorem dksX1_guest_0 : cX1_guest.data.toList.drop 0 = dktX1_guest_0 := by decide +kernel
theorem dksX1_guest_1 : cX1_guest.data.toList.drop 16 = dktX1_guest_1 := dk_seg dksX1_guest_0 16 rfl rfl
theorem dksX1_guest_2 : cX1_guest.data.toList.drop 52 = dktX1_guest_2 := dk_seg dksX1_guest_1 36 rfl rfl
theorem dksX1_guest_3 : cX1_guest.data.toList.drop 75 = dktX1_guest_3 := dk_seg dksX1_guest_2 23 rfl rfl
theorem dX1_guest_0 : decode cX1_guest 0 = .ok (.aload_n 0, 1) := dk_42 (dk_at dksX1_guest_0 0 rfl rfl)
theorem dX1_guest_1 : decode cX1_guest 1 = .ok (.iload_n 1, 1) := dk_27 (dk_at dksX1_guest_0 1 rfl rfl)
theorem dX1_guest_2 : decode cX1_guest 2 = .ok (.invokevirtual 492, 3) := dk_182 1 236 (dk_at dksX1_guest_0 2 rfl rfl)
theorem dX1_guest_5 : decode cX1_guest 5 = .ok (.iload_n 2, 1) := dk_28 (dk_at dksX1_guest_0 5 rfl rfl)
theorem dX1_guest_6 : decode cX1_guest 6 = .ok (.iconst 5, 1) := dk_8 (dk_at dksX1_guest_0 6 rfl rfl)
theorem dX1_guest_7 : decode cX1_guest 7 = .ok (.invokestatic 504, 3) := dk_184 1 248 (dk_at dksX1_guest_0 7 rfl rfl)
theorem dX1_guest_10 : decode cX1_guest 10 = .ok (.aload_n 0, 1) := dk_42 (dk_at dksX1_guest_0 10 rfl rfl)
theorem dX1_guest_11 : decode cX1_guest 11 = .ok (.getfield 10, 3) := dk_180 0 10 (dk_at dksX1_guest_0 11 rfl rfl)
theorem dX1_guest_14 : decode cX1_guest 14 = .ok (.astore_n 3, 1) := dk_78 (dk_at dksX1_guest_0 14 rfl rfl)
theorem dX1_guest_15 : decode cX1_guest 15 = .ok (.iload_n 2, 1) := dk_28 (dk_at dksX1_guest_0 15 rfl rfl)
theorem dX1_guest_16 : decode cX1_guest 16 = .ok (.tableswitch 69 0 4 #[36, 43, 50, 57, 63], 36) := by decide +kernel
theorem dX1_guest_52 : decode cX1_guest 52 = .ok (.aload_n 3, 1) := dk_45 (dk_at dksX1_guest_2 0 rfl rfl)
theorem dX1_guest_53 : decode cX1_guest 53 = .ok (.getfield 171, 3) := dk_180 0 171 (dk_at dksX1_guest_2 1 rfl rfl)
theorem dX1_guest_56 : decode cX1_guest 56 = .ok (.iload_n 1, 1) := dk_27 (dk_at dksX1_guest_2 4 rfl rfl)
theorem dX1_guest_57 : decode cX1_guest 57 = .ok (.iaload, 1) := dk_46 (dk_at dksX1_guest_2 5 rfl rfl)
theorem dX1_guest_58 : decode cX1_guest 58 = .ok (.ireturn, 1) := dk_172 (dk_at dksX1_guest_2 6 rfl rfl)
theorem dX1_guest_59 : decode cX1_guest 59 = .ok (.aload_n 3, 1) := dk_45 (dk_at dksX1_guest_2 7 rfl rfl)
theorem dX1_guest_60 : decode cX1_guest 60 = .ok (.getfield 175, 3) := dk_180 0 175 (dk_at dksX1_guest_2 8 rfl rfl)
theorem dX1_guest_63 : decode cX1_guest 63 = .ok (.iload_n 1, 1) := dk_27 (dk_at dksX1_guest_2 11 rfl rfl)
theorem dX1_guest_64 : decode cX1_guest 64 = .ok (.iaload, 1) := dk_46 (dk_at dksX1_guest_2 12 rfl rfl)
theorem dX1_guest_65 : decode cX1_guest 65 = .ok (.ireturn, 1) := dk_172 (dk_at dksX1_guest_2 13 rfl rfl)
theorem dX1_guest_66 : decode cX1_guest 66 = .ok (.aload_n 3, 1) := dk_45 (dk_at dksX1_guest_2 14 rfl rfl)
theorem dX1_guest_67 : decode cX1_guest 67 = .ok (.getfield 178, 3) := dk_180 0 178 (dk_at dksX1_guest_2 15 rfl rfl)
theorem dX1_guest_70 : decode cX1_guest 70 = .ok (.iload_n 1, 1) := dk_27 (dk_at dksX1_guest_2 18 rfl rfl)
theorem dX1_guest_71 : decode cX1_guest 71 = .ok (.iaload, 1) := dk_46 (dk_at dksX1_guest_2 19 rfl rfl)
theorem dX1_guest_72 : decode cX1_guest 72 = .ok (.ireturn, 1) := dk_172 (dk_at dksX1_guest_2 20 rfl rfl)
theorem dX1_guest_73 : decode cX1_guest 73 = .ok (.aload_n 3, 1) := dk_45 (dk_at dksX1_guest_2 21 rfl rfl)
theorem dX1_guest_74 : decode cX1_guest 74 = .ok (.iload_n 1, 1) := dk_27 (dk_at dksX1_guest_2 22 rfl rfl)
theorem dX1_guest_75 : decode cX1_guest 75 = .ok (.invokevirtual 516, 3) := dk_182 2 4 (dk_at dksX1_guest_3 0 rfl rfl)
theorem dX1_guest_78 : decode cX1_guest 78 = .ok (.ireturn, 1) := dk_172 (dk_at dksX1_guest_3 3 rfl rfl)
theorem dX1_guest_79 : decode cX1_guest 79 = .ok (.aload_n 0, 1) := dk_42 (dk_at dksX1_guest_3 4 rfl rfl)
theorem dX1_guest_80 : decode cX1_guest 80 = .ok (.iload_n 1, 1) := dk_27 (dk_at dksX1_guest_3 5 rfl rfl)
theorem dX1_guest_81 : decode cX1_guest 81 = .ok (.invokevirtual 519, 3) := dk_182 2 7 (dk_at dksX1_guest_3 6 rfl rfl)
theorem dX1_guest_84 : decode cX1_guest 84 = .ok (.ireturn, 1) := dk_172 (dk_at dksX1_guest_3 9 rfl rfl)
theorem dX1_guest_85 : decode cX1_guest 85 = .ok (.aload_n 3, 1) := dk_45 (dk_at dksX1_guest_3 10 rfl rfl)
theorem dX1_guest_86 : decode cX1_guest 86 = .ok (.iload_n 1, 1) := dk_27 (dk_at dksX1_guest_3 11 rfl rfl)
theorem dX1_guest_87 : decode cX1_guest 87 = .ok (.invokevirtual 409, 3) := dk_182 1 153 (dk_at dksX1_guest_3 12 rfl rfl)
theorem dX1_guest_90 : decode cX1_guest 90 = .ok (.ifCond .eq 7, 3) := dk_153 0 7 (dk_at dksX1_guest_3 15 rfl rfl)
theorem dX1_guest_93 : decode cX1_guest 93 = .ok (.iconst 1, 1) := dk_4 (dk_at dksX1_guest_3 18 rfl rfl)
theorem dX1_guest_94 : decode cX1_guest 94 = .ok (.goto 4, 3) := dk_167 0 4 (dk_at dksX1_guest_3 19 rfl rfl)
theorem dX1_guest_97 : decode cX1_guest 97 = .ok (.iconst 0, 1) := dk_3 (dk_at dksX1_guest_3 22 rfl rfl)
theorem dX1_guest_98 : decode cX1_guest 98 = .ok (.ireturn, 1) := dk_172 (dk_at dksX1_guest_3 23 rfl rfl)
abbrev cX1_guestAt : ByteArray := prog_1_method_39_code
def yX1_guestAt : MethodName := ⟨RX1, "guestAt", "(I)V"⟩
def dkwX1_guestAt_0 : List UInt8 := [27, 42, 180, 0, 10, 180, 0, 168, 184, 1, 230, 177]
abbrev dktX1_guestAt_0 : List UInt8 := dkwX1_guestAt_0 ++ []
theorem dksX1_guestAt_0 : cX1_guestAt.data.toList.drop 0 = dktX1_guestAt_0 := by decide +kernel
theorem dX1_guestAt_0 : decode cX1_guestAt 0 = .ok (.iload_n 1, 1) := dk_27 (dk_at dksX1_guestAt_0 0 rfl rfl)
theorem dX1_guestAt_1 : decode cX1_guestAt 1 = .ok (.aload_n 0, 1) := dk_42 (dk_at dksX1_guestAt_0 1 rfl rfl)
theorem dX1_guestAt_2 : decode cX1_guestAt 2 = .ok (.getfield 10, 3) := dk_180 0 10 (dk_at dksX1_guestAt_0 2 rfl rfl)
theorem dX1_guestAt_5 : decode cX1_guestAt 5 = .ok (.getfield 168, 3) := dk_180 0 168 (dk_at dksX1_guestAt_0 5 rfl rfl)
theorem dX1_guestAt_8 : decode cX1_guestAt 8 = .ok (.invokestatic 486, 3) := dk_184 1 230 (dk_at dksX1_guestAt_0 8 rfl rfl)
theorem dX1_guestAt_11 : decode cX1_guestAt 11 = .ok (.return_, 1) := dk_177 (dk_at dksX1_guestAt_0 11 rfl rfl)
abbrev cX1_rank : ByteArray := prog_1_method_49_code
def yX1_rank : MethodName := ⟨RX1, "rank", "(IIZ)I"⟩
def dkwX1_rank_1 : List UInt8 := [46, 167, 0, 14, 42, 180, 0, 10, 180, 0, 165, 28, 50, 27, 46, 172]
abbrev dktX1_rank_1 : List UInt8 := dkwX1_rank_1 ++ []
def dkwX1_rank_0 : List UInt8 := [42, 27, 182, 1, 233, 42, 28, 182, 1, 236, 29, 153, 0, 17, 42, 180, 0, 10, 180, 0, 155, 27, 50, 28]
abbrev dktX1_rank_0 : List UInt8 := dkwX1_rank_0 ++ dktX1_rank_1
theorem dksX1_rank_0 : cX1_rank.data.toList.drop 0 = dktX1_rank_0 := by decide +kernel
theorem dksX1_rank_1 : cX1_rank.data.toList.drop 24 = dktX1_rank_1 := dk_seg dksX1_rank_0 24 rfl rfl
theorem dX1_rank_0 : decode cX1_rank 0 = .ok (.aload_n 0, 1) := dk_42 (dk_at dksX1_rank_0 0 rfl rfl)
theorem dX1_rank_1 : decode cX1_rank 1 = .ok (.iload_n 1, 1) := dk_27 (dk_at dksX1_rank_0 1 rfl rfl)
theorem dX1_rank_2 : decode cX1_rank 2 = .ok (.invokevirtual 489, 3) := dk_182 1 233 (dk_at dksX1_rank_0 2 rfl rfl)
theorem dX1_rank_5 : decode cX1_rank 5 = .ok (.aload_n 0, 1) := dk_42 (dk_at dksX1_rank_0 5 rfl rfl)
theorem dX1_rank_6 : decode cX1_rank 6 = .ok (.iload_n 2, 1) := dk_28 (dk_at dksX1_rank_0 6 rfl rfl)
theorem dX1_rank_7 : decode cX1_rank 7 = .ok (.invokevirtual 492, 3) := dk_182 1 236 (dk_at dksX1_rank_0 7 rfl rfl)
theorem dX1_rank_10 : decode cX1_rank 10 = .ok (.iload_n 3, 1) := dk_29 (dk_at dksX1_rank_0 10 rfl rfl)
theorem dX1_rank_11 : decode cX1_rank 11 = .ok (.ifCond .eq 17, 3) := dk_153 0 17 (dk_at dksX1_rank_0 11 rfl rfl)
theorem dX1_rank_14 : decode cX1_rank 14 = .ok (.aload_n 0, 1) := dk_42 (dk_at dksX1_rank_0 14 rfl rfl)
theorem dX1_rank_15 : decode cX1_rank 15 = .ok (.getfield 10, 3) := dk_180 0 10 (dk_at dksX1_rank_0 15 rfl rfl)
theorem dX1_rank_18 : decode cX1_rank 18 = .ok (.getfield 155, 3) := dk_180 0 155 (dk_at dksX1_rank_0 18 rfl rfl)
theorem dX1_rank_21 : decode cX1_rank 21 = .ok (.iload_n 1, 1) := dk_27 (dk_at dksX1_rank_0 21 rfl rfl)
theorem dX1_rank_22 : decode cX1_rank 22 = .ok (.aaload, 1) := dk_50 (dk_at dksX1_rank_0 22 rfl rfl)
theorem dX1_rank_23 : decode cX1_rank 23 = .ok (.iload_n 2, 1) := dk_28 (dk_at dksX1_rank_0 23 rfl rfl)
theorem dX1_rank_24 : decode cX1_rank 24 = .ok (.iaload, 1) := dk_46 (dk_at dksX1_rank_1 0 rfl rfl)
theorem dX1_rank_25 : decode cX1_rank 25 = .ok (.goto 14, 3) := dk_167 0 14 (dk_at dksX1_rank_1 1 rfl rfl)
theorem dX1_rank_28 : decode cX1_rank 28 = .ok (.aload_n 0, 1) := dk_42 (dk_at dksX1_rank_1 4 rfl rfl)
theorem dX1_rank_29 : decode cX1_rank 29 = .ok (.getfield 10, 3) := dk_180 0 10 (dk_at dksX1_rank_1 5 rfl rfl)
theorem dX1_rank_32 : decode cX1_rank 32 = .ok (.getfield 165, 3) := dk_180 0 165 (dk_at dksX1_rank_1 8 rfl rfl)
theorem dX1_rank_35 : decode cX1_rank 35 = .ok (.iload_n 2, 1) := dk_28 (dk_at dksX1_rank_1 11 rfl rfl)
theorem dX1_rank_36 : decode cX1_rank 36 = .ok (.aaload, 1) := dk_50 (dk_at dksX1_rank_1 12 rfl rfl)
theorem dX1_rank_37 : decode cX1_rank 37 = .ok (.iload_n 1, 1) := dk_27 (dk_at dksX1_rank_1 13 rfl rfl)
theorem dX1_rank_38 : decode cX1_rank 38 = .ok (.iaload, 1) := dk_46 (dk_at dksX1_rank_1 14 rfl rfl)
theorem dX1_rank_39 : decode cX1_rank 39 = .ok (.ireturn, 1) := dk_172 (dk_at dksX1_rank_1 15 rfl rfl)
abbrev cX1_booked : ByteArray := prog_1_method_50_code
def yX1_booked : MethodName := ⟨RX1, "booked", "(II)I"⟩
def dkwX1_booked_0 : List UInt8 := [42, 27, 182, 1, 233, 28, 184, 1, 239, 42, 180, 0, 10, 180, 1, 159, 27, 50, 28, 46, 172]
abbrev dktX1_booked_0 : List UInt8 := dkwX1_booked_0 ++ []
theorem dksX1_booked_0 : cX1_booked.data.toList.drop 0 = dktX1_booked_0 := by decide +kernel
theorem dX1_booked_0 : decode cX1_booked 0 = .ok (.aload_n 0, 1) := dk_42 (dk_at dksX1_booked_0 0 rfl rfl)
theorem dX1_booked_1 : decode cX1_booked 1 = .ok (.iload_n 1, 1) := dk_27 (dk_at dksX1_booked_0 1 rfl rfl)
theorem dX1_booked_2 : decode cX1_booked 2 = .ok (.invokevirtual 489, 3) := dk_182 1 233 (dk_at dksX1_booked_0 2 rfl rfl)
theorem dX1_booked_5 : decode cX1_booked 5 = .ok (.iload_n 2, 1) := dk_28 (dk_at dksX1_booked_0 5 rfl rfl)
theorem dX1_booked_6 : decode cX1_booked 6 = .ok (.invokestatic 495, 3) := dk_184 1 239 (dk_at dksX1_booked_0 6 rfl rfl)
theorem dX1_booked_9 : decode cX1_booked 9 = .ok (.aload_n 0, 1) := dk_42 (dk_at dksX1_booked_0 9 rfl rfl)
theorem dX1_booked_10 : decode cX1_booked 10 = .ok (.getfield 10, 3) := dk_180 0 10 (dk_at dksX1_booked_0 10 rfl rfl)
theorem dX1_booked_13 : decode cX1_booked 13 = .ok (.getfield 415, 3) := dk_180 1 159 (dk_at dksX1_booked_0 13 rfl rfl)
theorem dX1_booked_16 : decode cX1_booked 16 = .ok (.iload_n 1, 1) := dk_27 (dk_at dksX1_booked_0 16 rfl rfl)
theorem dX1_booked_17 : decode cX1_booked 17 = .ok (.aaload, 1) := dk_50 (dk_at dksX1_booked_0 17 rfl rfl)
theorem dX1_booked_18 : decode cX1_booked 18 = .ok (.iload_n 2, 1) := dk_28 (dk_at dksX1_booked_0 18 rfl rfl)
theorem dX1_booked_19 : decode cX1_booked 19 = .ok (.iaload, 1) := dk_46 (dk_at dksX1_booked_0 19 rfl rfl)
theorem dX1_booked_20 : decode cX1_booked 20 = .ok (.ireturn, 1) := dk_172 (dk_at dksX1_booked_0 20 rfl rfl)
abbrev cX1_quarterAt : ByteArray := prog_1_method_40_code
def yX1_quarterAt : MethodName := ⟨RX1, "quarterAt", "(I)V"⟩
def dkwX1_quarterAt_0 : List UInt8 := [26, 16, 8, 184, 1, 230, 177]
abbrev dktX1_quarterAt_0 : List UInt8 := dkwX1_quarterAt_0 ++ []
theorem dksX1_quarterAt_0 : cX1_quarterAt.data.toList.drop 0 = dktX1_quarterAt_0 := by decide +kernel
theorem dX1_quarterAt_0 : decode cX1_quarterAt 0 = .ok (.iload_n 0, 1) := dk_26 (dk_at dksX1_quarterAt_0 0 rfl rfl)
theorem dX1_quarterAt_1 : decode cX1_quarterAt 1 = .ok (.bipush 8, 2) := dk_16 8 (dk_at dksX1_quarterAt_0 1 rfl rfl)
theorem dX1_quarterAt_3 : decode cX1_quarterAt 3 = .ok (.invokestatic 486, 3) := dk_184 1 230 (dk_at dksX1_quarterAt_0 3 rfl rfl)
theorem dX1_quarterAt_6 : decode cX1_quarterAt 6 = .ok (.return_, 1) := dk_177 (dk_at dksX1_quarterAt_0 6 rfl rfl)
abbrev cX1_can : ByteArray := prog_1_method_51_code
def yX1_can : MethodName := ⟨RX1, "can", "(III)Z"⟩
def dkwX1_can_0 : List UInt8 := [42, 27, 28, 29, 182, 2, 10, 42, 180, 0, 10, 27, 28, 29, 182, 1, 176, 172]
abbrev dktX1_can_0 : List UInt8 := dkwX1_can_0 ++ []
theorem dksX1_can_0 : cX1_can.data.toList.drop 0 = dktX1_can_0 := by decide +kernel
theorem dX1_can_0 : decode cX1_can 0 = .ok (.aload_n 0, 1) := dk_42 (dk_at dksX1_can_0 0 rfl rfl)
theorem dX1_can_1 : decode cX1_can 1 = .ok (.iload_n 1, 1) := dk_27 (dk_at dksX1_can_0 1 rfl rfl)
theorem dX1_can_2 : decode cX1_can 2 = .ok (.iload_n 2, 1) := dk_28 (dk_at dksX1_can_0 2 rfl rfl)
theorem dX1_can_3 : decode cX1_can 3 = .ok (.iload_n 3, 1) := dk_29 (dk_at dksX1_can_0 3 rfl rfl)
theorem dX1_can_4 : decode cX1_can 4 = .ok (.invokevirtual 522, 3) := dk_182 2 10 (dk_at dksX1_can_0 4 rfl rfl)
theorem dX1_can_7 : decode cX1_can 7 = .ok (.aload_n 0, 1) := dk_42 (dk_at dksX1_can_0 7 rfl rfl)
theorem dX1_can_8 : decode cX1_can 8 = .ok (.getfield 10, 3) := dk_180 0 10 (dk_at dksX1_can_0 8 rfl rfl)
theorem dX1_can_11 : decode cX1_can 11 = .ok (.iload_n 1, 1) := dk_27 (dk_at dksX1_can_0 11 rfl rfl)
theorem dX1_can_12 : decode cX1_can 12 = .ok (.iload_n 2, 1) := dk_28 (dk_at dksX1_can_0 12 rfl rfl)
theorem dX1_can_13 : decode cX1_can 13 = .ok (.iload_n 3, 1) := dk_29 (dk_at dksX1_can_0 13 rfl rfl)
theorem dX1_can_14 : decode cX1_can 14 = .ok (.invokevirtual 432, 3) := dk_182 1 176 (dk_at dksX1_can_0 14 rfl rfl)
theorem dX1_can_17 : decode cX1_can 17 = .ok (.ireturn, 1) := dk_172 (dk_at dksX1_can_0 17 rfl rfl)
abbrev cX1_allAt : ByteArray := prog_1_method_41_code
def yX1_allAt : MethodName := ⟨RX1, "allAt", "(III)V"⟩
def dkwX1_allAt_0 : List UInt8 := [42, 27, 182, 1, 233, 42, 28, 182, 1, 236, 29, 184, 1, 239, 177]
abbrev dktX1_allAt_0 : List UInt8 := dkwX1_allAt_0 ++ []
theorem dksX1_allAt_0 : cX1_allAt.data.toList.drop 0 = dktX1_allAt_0 := by decide +kernel
theorem dX1_allAt_0 : decode cX1_allAt 0 = .ok (.aload_n 0, 1) := dk_42 (dk_at dksX1_allAt_0 0 rfl rfl)
theorem dX1_allAt_1 : decode cX1_allAt 1 = .ok (.iload_n 1, 1) := dk_27 (dk_at dksX1_allAt_0 1 rfl rfl)
theorem dX1_allAt_2 : decode cX1_allAt 2 = .ok (.invokevirtual 489, 3) := dk_182 1 233 (dk_at dksX1_allAt_0 2 rfl rfl)
theorem dX1_allAt_5 : decode cX1_allAt 5 = .ok (.aload_n 0, 1) := dk_42 (dk_at dksX1_allAt_0 5 rfl rfl)
theorem dX1_allAt_6 : decode cX1_allAt 6 = .ok (.iload_n 2, 1) := dk_28 (dk_at dksX1_allAt_0 6 rfl rfl)
theorem dX1_allAt_7 : decode cX1_allAt 7 = .ok (.invokevirtual 492, 3) := dk_182 1 236 (dk_at dksX1_allAt_0 7 rfl rfl)
theorem dX1_allAt_10 : decode cX1_allAt 10 = .ok (.iload_n 3, 1) := dk_29 (dk_at dksX1_allAt_0 10 rfl rfl)
theorem dX1_allAt_11 : decode cX1_allAt 11 = .ok (.invokestatic 495, 3) := dk_184 1 239 (dk_at dksX1_allAt_0 11 rfl rfl)
theorem dX1_allAt_14 : decode cX1_allAt 14 = .ok (.return_, 1) := dk_177 (dk_at dksX1_allAt_0 14 rfl rfl)
abbrev cX1_lets : ByteArray := prog_1_method_52_code
def yX1_lets : MethodName := ⟨RX1, "lets", "(III)Z"⟩
def dkwX1_lets_0 : List UInt8 := [42, 27, 28, 29, 182, 2, 10, 42, 42, 180, 0, 10, 27, 28, 29, 182, 1, 179, 172]
abbrev dktX1_lets_0 : List UInt8 := dkwX1_lets_0 ++ []
theorem dksX1_lets_0 : cX1_lets.data.toList.drop 0 = dktX1_lets_0 := by decide +kernel
theorem dX1_lets_0 : decode cX1_lets 0 = .ok (.aload_n 0, 1) := dk_42 (dk_at dksX1_lets_0 0 rfl rfl)
theorem dX1_lets_1 : decode cX1_lets 1 = .ok (.iload_n 1, 1) := dk_27 (dk_at dksX1_lets_0 1 rfl rfl)
theorem dX1_lets_2 : decode cX1_lets 2 = .ok (.iload_n 2, 1) := dk_28 (dk_at dksX1_lets_0 2 rfl rfl)
theorem dX1_lets_3 : decode cX1_lets 3 = .ok (.iload_n 3, 1) := dk_29 (dk_at dksX1_lets_0 3 rfl rfl)
theorem dX1_lets_4 : decode cX1_lets 4 = .ok (.invokevirtual 522, 3) := dk_182 2 10 (dk_at dksX1_lets_0 4 rfl rfl)
theorem dX1_lets_7 : decode cX1_lets 7 = .ok (.aload_n 0, 1) := dk_42 (dk_at dksX1_lets_0 7 rfl rfl)
theorem dX1_lets_8 : decode cX1_lets 8 = .ok (.aload_n 0, 1) := dk_42 (dk_at dksX1_lets_0 8 rfl rfl)
theorem dX1_lets_9 : decode cX1_lets 9 = .ok (.getfield 10, 3) := dk_180 0 10 (dk_at dksX1_lets_0 9 rfl rfl)
theorem dX1_lets_12 : decode cX1_lets 12 = .ok (.iload_n 1, 1) := dk_27 (dk_at dksX1_lets_0 12 rfl rfl)
theorem dX1_lets_13 : decode cX1_lets 13 = .ok (.iload_n 2, 1) := dk_28 (dk_at dksX1_lets_0 13 rfl rfl)
theorem dX1_lets_14 : decode cX1_lets 14 = .ok (.iload_n 3, 1) := dk_29 (dk_at dksX1_lets_0 14 rfl rfl)
theorem dX1_lets_15 : decode cX1_lets 15 = .ok (.invokevirtual 435, 3) := dk_182 1 179 (dk_at dksX1_lets_0 15 rfl rfl)
theorem dX1_lets_18 : decode cX1_lets 18 = .ok (.ireturn, 1) := dk_172 (dk_at dksX1_lets_0 18 rfl rfl)
abbrev cX1_joy : ByteArray := prog_1_method_53_code
def yX1_joy : MethodName := ⟨RX1, "joy", "(III)I"⟩
def dkwX1_joy_0 : List UInt8 := [42, 27, 28, 29, 182, 2, 10, 42, 42, 180, 0, 10, 27, 28, 29, 182, 1, 187, 172]
abbrev dktX1_joy_0 : List UInt8 := dkwX1_joy_0 ++ []
theorem dksX1_joy_0 : cX1_joy.data.toList.drop 0 = dktX1_joy_0 := by decide +kernel
theorem dX1_joy_0 : decode cX1_joy 0 = .ok (.aload_n 0, 1) := dk_42 (dk_at dksX1_joy_0 0 rfl rfl)
theorem dX1_joy_1 : decode cX1_joy 1 = .ok (.iload_n 1, 1) := dk_27 (dk_at dksX1_joy_0 1 rfl rfl)
theorem dX1_joy_2 : decode cX1_joy 2 = .ok (.iload_n 2, 1) := dk_28 (dk_at dksX1_joy_0 2 rfl rfl)
theorem dX1_joy_3 : decode cX1_joy 3 = .ok (.iload_n 3, 1) := dk_29 (dk_at dksX1_joy_0 3 rfl rfl)
theorem dX1_joy_4 : decode cX1_joy 4 = .ok (.invokevirtual 522, 3) := dk_182 2 10 (dk_at dksX1_joy_0 4 rfl rfl)
theorem dX1_joy_7 : decode cX1_joy 7 = .ok (.aload_n 0, 1) := dk_42 (dk_at dksX1_joy_0 7 rfl rfl)
theorem dX1_joy_8 : decode cX1_joy 8 = .ok (.aload_n 0, 1) := dk_42 (dk_at dksX1_joy_0 8 rfl rfl)
theorem dX1_joy_9 : decode cX1_joy 9 = .ok (.getfield 10, 3) := dk_180 0 10 (dk_at dksX1_joy_0 9 rfl rfl)
theorem dX1_joy_12 : decode cX1_joy 12 = .ok (.iload_n 1, 1) := dk_27 (dk_at dksX1_joy_0 12 rfl rfl)
theorem dX1_joy_13 : decode cX1_joy 13 = .ok (.iload_n 2, 1) := dk_28 (dk_at dksX1_joy_0 13 rfl rfl)
theorem dX1_joy_14 : decode cX1_joy 14 = .ok (.iload_n 3, 1) := dk_29 (dk_at dksX1_joy_0 14 rfl rfl)
theorem dX1_joy_15 : decode cX1_joy 15 = .ok (.invokevirtual 443, 3) := dk_182 1 187 (dk_at dksX1_joy_0 15 rfl rfl)
theorem dX1_joy_18 : decode cX1_joy 18 = .ok (.ireturn, 1) := dk_172 (dk_at dksX1_joy_0 18 rfl rfl)
abbrev cX1_book : ByteArray := prog_1_method_55_code
def yX1_book : MethodName := ⟨RX1, "book", "(III)I"⟩
def dkwX1_book_3 : List UInt8 := [21, 4, 172]
abbrev dktX1_book_3 : List UInt8 := dkwX1_book_3 ++ []
def dkwX1_book_2 : List UInt8 := [180, 0, 10, 180, 1, 159, 27, 50, 29, 46, 54, 4, 42, 180, 0, 10, 180, 1, 159, 27, 50, 29, 28, 79]
abbrev dktX1_book_2 : List UInt8 := dkwX1_book_2 ++ dktX1_book_3
def dkwX1_book_1 : List UInt8 := [28, 182, 2, 4, 29, 184, 0, 128, 154, 0, 7, 4, 167, 0, 4, 3, 184, 2, 18, 42, 182, 2, 21, 42]
abbrev dktX1_book_1 : List UInt8 := dkwX1_book_1 ++ dktX1_book_2
def dkwX1_book_0 : List UInt8 := [42, 27, 28, 29, 182, 2, 10, 42, 180, 0, 10, 27, 28, 29, 182, 1, 176, 153, 0, 22, 42, 180, 0, 10]
abbrev dktX1_book_0 : List UInt8 := dkwX1_book_0 ++ dktX1_book_1
theorem dksX1_book_0 : cX1_book.data.toList.drop 0 = dktX1_book_0 := by decide +kernel
theorem dksX1_book_1 : cX1_book.data.toList.drop 24 = dktX1_book_1 := dk_seg dksX1_book_0 24 rfl rfl
theorem dksX1_book_2 : cX1_book.data.toList.drop 48 = dktX1_book_2 := dk_seg dksX1_book_1 24 rfl rfl
theorem dksX1_book_3 : cX1_book.data.toList.drop 72 = dktX1_book_3 := dk_seg dksX1_book_2 24 rfl rfl
theorem dX1_book_0 : decode cX1_book 0 = .ok (.aload_n 0, 1) := dk_42 (dk_at dksX1_book_0 0 rfl rfl)
theorem dX1_book_1 : decode cX1_book 1 = .ok (.iload_n 1, 1) := dk_27 (dk_at dksX1_book_0 1 rfl rfl)
theorem dX1_book_2 : decode cX1_book 2 = .ok (.iload_n 2, 1) := dk_28 (dk_at dksX1_book_0 2 rfl rfl)
theorem dX1_book_3 : decode cX1_book 3 = .ok (.iload_n 3, 1) := dk_29 (dk_at dksX1_book_0 3 rfl rfl)
theorem dX1_book_4 : decode cX1_book 4 = .ok (.invokevirtual 522, 3) := dk_182 2 10 (dk_at dksX1_book_0 4 rfl rfl)
theorem dX1_book_7 : decode cX1_book 7 = .ok (.aload_n 0, 1) := dk_42 (dk_at dksX1_book_0 7 rfl rfl)
theorem dX1_book_8 : decode cX1_book 8 = .ok (.getfield 10, 3) := dk_180 0 10 (dk_at dksX1_book_0 8 rfl rfl)
theorem dX1_book_11 : decode cX1_book 11 = .ok (.iload_n 1, 1) := dk_27 (dk_at dksX1_book_0 11 rfl rfl)
theorem dX1_book_12 : decode cX1_book 12 = .ok (.iload_n 2, 1) := dk_28 (dk_at dksX1_book_0 12 rfl rfl)
theorem dX1_book_13 : decode cX1_book 13 = .ok (.iload_n 3, 1) := dk_29 (dk_at dksX1_book_0 13 rfl rfl)
theorem dX1_book_14 : decode cX1_book 14 = .ok (.invokevirtual 432, 3) := dk_182 1 176 (dk_at dksX1_book_0 14 rfl rfl)
theorem dX1_book_17 : decode cX1_book 17 = .ok (.ifCond .eq 22, 3) := dk_153 0 22 (dk_at dksX1_book_0 17 rfl rfl)
theorem dX1_book_20 : decode cX1_book 20 = .ok (.aload_n 0, 1) := dk_42 (dk_at dksX1_book_0 20 rfl rfl)
theorem dX1_book_21 : decode cX1_book 21 = .ok (.getfield 10, 3) := dk_180 0 10 (dk_at dksX1_book_0 21 rfl rfl)
theorem dX1_book_24 : decode cX1_book 24 = .ok (.iload_n 2, 1) := dk_28 (dk_at dksX1_book_1 0 rfl rfl)
theorem dX1_book_25 : decode cX1_book 25 = .ok (.invokevirtual 516, 3) := dk_182 2 4 (dk_at dksX1_book_1 1 rfl rfl)
theorem dX1_book_28 : decode cX1_book 28 = .ok (.iload_n 3, 1) := dk_29 (dk_at dksX1_book_1 4 rfl rfl)
theorem dX1_book_29 : decode cX1_book 29 = .ok (.invokestatic 128, 3) := dk_184 0 128 (dk_at dksX1_book_1 5 rfl rfl)
theorem dX1_book_32 : decode cX1_book 32 = .ok (.ifCond .ne 7, 3) := dk_154 0 7 (dk_at dksX1_book_1 8 rfl rfl)
theorem dX1_book_35 : decode cX1_book 35 = .ok (.iconst 1, 1) := dk_4 (dk_at dksX1_book_1 11 rfl rfl)
theorem dX1_book_36 : decode cX1_book 36 = .ok (.goto 4, 3) := dk_167 0 4 (dk_at dksX1_book_1 12 rfl rfl)
theorem dX1_book_39 : decode cX1_book 39 = .ok (.iconst 0, 1) := dk_3 (dk_at dksX1_book_1 15 rfl rfl)
theorem dX1_book_40 : decode cX1_book 40 = .ok (.invokestatic 530, 3) := dk_184 2 18 (dk_at dksX1_book_1 16 rfl rfl)
theorem dX1_book_43 : decode cX1_book 43 = .ok (.aload_n 0, 1) := dk_42 (dk_at dksX1_book_1 19 rfl rfl)
theorem dX1_book_44 : decode cX1_book 44 = .ok (.invokevirtual 533, 3) := dk_182 2 21 (dk_at dksX1_book_1 20 rfl rfl)
theorem dX1_book_47 : decode cX1_book 47 = .ok (.aload_n 0, 1) := dk_42 (dk_at dksX1_book_1 23 rfl rfl)
theorem dX1_book_48 : decode cX1_book 48 = .ok (.getfield 10, 3) := dk_180 0 10 (dk_at dksX1_book_2 0 rfl rfl)
theorem dX1_book_51 : decode cX1_book 51 = .ok (.getfield 415, 3) := dk_180 1 159 (dk_at dksX1_book_2 3 rfl rfl)
theorem dX1_book_54 : decode cX1_book 54 = .ok (.iload_n 1, 1) := dk_27 (dk_at dksX1_book_2 6 rfl rfl)
theorem dX1_book_55 : decode cX1_book 55 = .ok (.aaload, 1) := dk_50 (dk_at dksX1_book_2 7 rfl rfl)
theorem dX1_book_56 : decode cX1_book 56 = .ok (.iload_n 3, 1) := dk_29 (dk_at dksX1_book_2 8 rfl rfl)
theorem dX1_book_57 : decode cX1_book 57 = .ok (.iaload, 1) := dk_46 (dk_at dksX1_book_2 9 rfl rfl)
theorem dX1_book_58 : decode cX1_book 58 = .ok (.istore 4, 2) := dk_54 4 (dk_at dksX1_book_2 10 rfl rfl)
theorem dX1_book_60 : decode cX1_book 60 = .ok (.aload_n 0, 1) := dk_42 (dk_at dksX1_book_2 12 rfl rfl)
theorem dX1_book_61 : decode cX1_book 61 = .ok (.getfield 10, 3) := dk_180 0 10 (dk_at dksX1_book_2 13 rfl rfl)
theorem dX1_book_64 : decode cX1_book 64 = .ok (.getfield 415, 3) := dk_180 1 159 (dk_at dksX1_book_2 16 rfl rfl)
theorem dX1_book_67 : decode cX1_book 67 = .ok (.iload_n 1, 1) := dk_27 (dk_at dksX1_book_2 19 rfl rfl)
theorem dX1_book_68 : decode cX1_book 68 = .ok (.aaload, 1) := dk_50 (dk_at dksX1_book_2 20 rfl rfl)
theorem dX1_book_69 : decode cX1_book 69 = .ok (.iload_n 3, 1) := dk_29 (dk_at dksX1_book_2 21 rfl rfl)
theorem dX1_book_70 : decode cX1_book 70 = .ok (.iload_n 2, 1) := dk_28 (dk_at dksX1_book_2 22 rfl rfl)
theorem dX1_book_71 : decode cX1_book 71 = .ok (.iastore, 1) := dk_79 (dk_at dksX1_book_2 23 rfl rfl)
theorem dX1_book_72 : decode cX1_book 72 = .ok (.iload 4, 2) := dk_21 4 (dk_at dksX1_book_3 0 rfl rfl)
theorem dX1_book_74 : decode cX1_book 74 = .ok (.ireturn, 1) := dk_172 (dk_at dksX1_book_3 2 rfl rfl)
abbrev cX1_may : ByteArray := prog_1_method_36_code
def yX1_may : MethodName := ⟨RX1, "may", "(Z)V"⟩
def dkwX1_may_0 : List UInt8 := [26, 154, 0, 11, 187, 1, 224, 89, 183, 1, 226, 191, 177]
abbrev dktX1_may_0 : List UInt8 := dkwX1_may_0 ++ []
theorem dksX1_may_0 : cX1_may.data.toList.drop 0 = dktX1_may_0 := by decide +kernel
theorem dX1_may_0 : decode cX1_may 0 = .ok (.iload_n 0, 1) := dk_26 (dk_at dksX1_may_0 0 rfl rfl)
theorem dX1_may_1 : decode cX1_may 1 = .ok (.ifCond .ne 11, 3) := dk_154 0 11 (dk_at dksX1_may_0 1 rfl rfl)
theorem dX1_may_4 : decode cX1_may 4 = .ok (.new 480, 3) := dk_187 1 224 (dk_at dksX1_may_0 4 rfl rfl)
theorem dX1_may_7 : decode cX1_may 7 = .ok (.dup, 1) := dk_89 (dk_at dksX1_may_0 7 rfl rfl)
theorem dX1_may_8 : decode cX1_may 8 = .ok (.invokespecial 482, 3) := dk_183 1 226 (dk_at dksX1_may_0 8 rfl rfl)
theorem dX1_may_11 : decode cX1_may 11 = .ok (.athrow, 1) := dk_191 (dk_at dksX1_may_0 11 rfl rfl)
theorem dX1_may_12 : decode cX1_may 12 = .ok (.return_, 1) := dk_177 (dk_at dksX1_may_0 12 rfl rfl)
abbrev cX1_remembers : ByteArray := prog_1_method_54_code
def yX1_remembers : MethodName := ⟨RX1, "remembers", "()V"⟩
def dkwX1_remembers_2 : List UInt8 := [182, 1, 48, 87, 177]
abbrev dktX1_remembers_2 : List UInt8 := dkwX1_remembers_2 ++ []
def dkwX1_remembers_1 : List UInt8 := [167, 0, 10, 187, 0, 7, 89, 183, 0, 9, 76, 42, 180, 0, 42, 43, 42, 180, 0, 10, 182, 1, 3]
abbrev dktX1_remembers_1 : List UInt8 := dkwX1_remembers_1 ++ dktX1_remembers_2
def dkwX1_remembers_0 : List UInt8 := [42, 180, 0, 42, 182, 1, 122, 16, 12, 160, 0, 17, 42, 180, 0, 42, 3, 182, 2, 14, 192, 0, 7]
abbrev dktX1_remembers_0 : List UInt8 := dkwX1_remembers_0 ++ dktX1_remembers_1
theorem dksX1_remembers_0 : cX1_remembers.data.toList.drop 0 = dktX1_remembers_0 := by decide +kernel
theorem dksX1_remembers_1 : cX1_remembers.data.toList.drop 23 = dktX1_remembers_1 := dk_seg dksX1_remembers_0 23 rfl rfl
theorem dksX1_remembers_2 : cX1_remembers.data.toList.drop 46 = dktX1_remembers_2 := dk_seg dksX1_remembers_1 23 rfl rfl
theorem dX1_remembers_0 : decode cX1_remembers 0 = .ok (.aload_n 0, 1) := dk_42 (dk_at dksX1_remembers_0 0 rfl rfl)
theorem dX1_remembers_1 : decode cX1_remembers 1 = .ok (.getfield 42, 3) := dk_180 0 42 (dk_at dksX1_remembers_0 1 rfl rfl)
theorem dX1_remembers_4 : decode cX1_remembers 4 = .ok (.invokevirtual 378, 3) := dk_182 1 122 (dk_at dksX1_remembers_0 4 rfl rfl)
theorem dX1_remembers_7 : decode cX1_remembers 7 = .ok (.bipush 12, 2) := dk_16 12 (dk_at dksX1_remembers_0 7 rfl rfl)
theorem dX1_remembers_9 : decode cX1_remembers 9 = .ok (.if_icmp .ne 17, 3) := dk_160 0 17 (dk_at dksX1_remembers_0 9 rfl rfl)
theorem dX1_remembers_12 : decode cX1_remembers 12 = .ok (.aload_n 0, 1) := dk_42 (dk_at dksX1_remembers_0 12 rfl rfl)
theorem dX1_remembers_13 : decode cX1_remembers 13 = .ok (.getfield 42, 3) := dk_180 0 42 (dk_at dksX1_remembers_0 13 rfl rfl)
theorem dX1_remembers_16 : decode cX1_remembers 16 = .ok (.iconst 0, 1) := dk_3 (dk_at dksX1_remembers_0 16 rfl rfl)
theorem dX1_remembers_17 : decode cX1_remembers 17 = .ok (.invokevirtual 526, 3) := dk_182 2 14 (dk_at dksX1_remembers_0 17 rfl rfl)
theorem dX1_remembers_20 : decode cX1_remembers 20 = .ok (.checkcast 7, 3) := dk_192 0 7 (dk_at dksX1_remembers_0 20 rfl rfl)
theorem dX1_remembers_23 : decode cX1_remembers 23 = .ok (.goto 10, 3) := dk_167 0 10 (dk_at dksX1_remembers_1 0 rfl rfl)
theorem dX1_remembers_26 : decode cX1_remembers 26 = .ok (.new 7, 3) := dk_187 0 7 (dk_at dksX1_remembers_1 3 rfl rfl)
theorem dX1_remembers_29 : decode cX1_remembers 29 = .ok (.dup, 1) := dk_89 (dk_at dksX1_remembers_1 6 rfl rfl)
theorem dX1_remembers_30 : decode cX1_remembers 30 = .ok (.invokespecial 9, 3) := dk_183 0 9 (dk_at dksX1_remembers_1 7 rfl rfl)
theorem dX1_remembers_33 : decode cX1_remembers 33 = .ok (.astore_n 1, 1) := dk_76 (dk_at dksX1_remembers_1 10 rfl rfl)
theorem dX1_remembers_34 : decode cX1_remembers 34 = .ok (.aload_n 0, 1) := dk_42 (dk_at dksX1_remembers_1 11 rfl rfl)
theorem dX1_remembers_35 : decode cX1_remembers 35 = .ok (.getfield 42, 3) := dk_180 0 42 (dk_at dksX1_remembers_1 12 rfl rfl)
theorem dX1_remembers_38 : decode cX1_remembers 38 = .ok (.aload_n 1, 1) := dk_43 (dk_at dksX1_remembers_1 15 rfl rfl)
theorem dX1_remembers_39 : decode cX1_remembers 39 = .ok (.aload_n 0, 1) := dk_42 (dk_at dksX1_remembers_1 16 rfl rfl)
theorem dX1_remembers_40 : decode cX1_remembers 40 = .ok (.getfield 10, 3) := dk_180 0 10 (dk_at dksX1_remembers_1 17 rfl rfl)
theorem dX1_remembers_43 : decode cX1_remembers 43 = .ok (.invokevirtual 259, 3) := dk_182 1 3 (dk_at dksX1_remembers_1 20 rfl rfl)
theorem dX1_remembers_46 : decode cX1_remembers 46 = .ok (.invokevirtual 304, 3) := dk_182 1 48 (dk_at dksX1_remembers_2 0 rfl rfl)
theorem dX1_remembers_49 : decode cX1_remembers 49 = .ok (.pop, 1) := dk_87 (dk_at dksX1_remembers_2 3 rfl rfl)
theorem dX1_remembers_50 : decode cX1_remembers 50 = .ok (.return_, 1) := dk_177 (dk_at dksX1_remembers_2 4 rfl rfl)
abbrev cX1_strike : ByteArray := prog_1_method_56_code
def yX1_strike : MethodName := ⟨RX1, "strike", "(II)I"⟩
def dkwX1_strike_2 : List UInt8 := [42, 180, 0, 10, 180, 1, 159, 27, 50, 28, 2, 79, 29, 172]
abbrev dktX1_strike_2 : List UInt8 := dkwX1_strike_2 ++ []
def dkwX1_strike_1 : List UInt8 := [4, 167, 0, 4, 3, 184, 2, 18, 42, 182, 2, 21, 42, 180, 0, 10, 180, 1, 159, 27, 50, 28, 46, 62]
abbrev dktX1_strike_1 : List UInt8 := dkwX1_strike_1 ++ dktX1_strike_2
def dkwX1_strike_0 : List UInt8 := [42, 27, 182, 1, 233, 28, 184, 1, 239, 42, 180, 0, 10, 180, 1, 159, 27, 50, 28, 46, 2, 159, 0, 7]
abbrev dktX1_strike_0 : List UInt8 := dkwX1_strike_0 ++ dktX1_strike_1
theorem dksX1_strike_0 : cX1_strike.data.toList.drop 0 = dktX1_strike_0 := by decide +kernel
theorem dksX1_strike_1 : cX1_strike.data.toList.drop 24 = dktX1_strike_1 := dk_seg dksX1_strike_0 24 rfl rfl
theorem dksX1_strike_2 : cX1_strike.data.toList.drop 48 = dktX1_strike_2 := dk_seg dksX1_strike_1 24 rfl rfl
theorem dX1_strike_0 : decode cX1_strike 0 = .ok (.aload_n 0, 1) := dk_42 (dk_at dksX1_strike_0 0 rfl rfl)
theorem dX1_strike_1 : decode cX1_strike 1 = .ok (.iload_n 1, 1) := dk_27 (dk_at dksX1_strike_0 1 rfl rfl)
theorem dX1_strike_2 : decode cX1_strike 2 = .ok (.invokevirtual 489, 3) := dk_182 1 233 (dk_at dksX1_strike_0 2 rfl rfl)
theorem dX1_strike_5 : decode cX1_strike 5 = .ok (.iload_n 2, 1) := dk_28 (dk_at dksX1_strike_0 5 rfl rfl)
theorem dX1_strike_6 : decode cX1_strike 6 = .ok (.invokestatic 495, 3) := dk_184 1 239 (dk_at dksX1_strike_0 6 rfl rfl)
theorem dX1_strike_9 : decode cX1_strike 9 = .ok (.aload_n 0, 1) := dk_42 (dk_at dksX1_strike_0 9 rfl rfl)
theorem dX1_strike_10 : decode cX1_strike 10 = .ok (.getfield 10, 3) := dk_180 0 10 (dk_at dksX1_strike_0 10 rfl rfl)
theorem dX1_strike_13 : decode cX1_strike 13 = .ok (.getfield 415, 3) := dk_180 1 159 (dk_at dksX1_strike_0 13 rfl rfl)
theorem dX1_strike_16 : decode cX1_strike 16 = .ok (.iload_n 1, 1) := dk_27 (dk_at dksX1_strike_0 16 rfl rfl)
theorem dX1_strike_17 : decode cX1_strike 17 = .ok (.aaload, 1) := dk_50 (dk_at dksX1_strike_0 17 rfl rfl)
theorem dX1_strike_18 : decode cX1_strike 18 = .ok (.iload_n 2, 1) := dk_28 (dk_at dksX1_strike_0 18 rfl rfl)
theorem dX1_strike_19 : decode cX1_strike 19 = .ok (.iaload, 1) := dk_46 (dk_at dksX1_strike_0 19 rfl rfl)
theorem dX1_strike_20 : decode cX1_strike 20 = .ok (.iconst (-1), 1) := dk_2 (dk_at dksX1_strike_0 20 rfl rfl)
theorem dX1_strike_21 : decode cX1_strike 21 = .ok (.if_icmp .eq 7, 3) := dk_159 0 7 (dk_at dksX1_strike_0 21 rfl rfl)
theorem dX1_strike_24 : decode cX1_strike 24 = .ok (.iconst 1, 1) := dk_4 (dk_at dksX1_strike_1 0 rfl rfl)
theorem dX1_strike_25 : decode cX1_strike 25 = .ok (.goto 4, 3) := dk_167 0 4 (dk_at dksX1_strike_1 1 rfl rfl)
theorem dX1_strike_28 : decode cX1_strike 28 = .ok (.iconst 0, 1) := dk_3 (dk_at dksX1_strike_1 4 rfl rfl)
theorem dX1_strike_29 : decode cX1_strike 29 = .ok (.invokestatic 530, 3) := dk_184 2 18 (dk_at dksX1_strike_1 5 rfl rfl)
theorem dX1_strike_32 : decode cX1_strike 32 = .ok (.aload_n 0, 1) := dk_42 (dk_at dksX1_strike_1 8 rfl rfl)
theorem dX1_strike_33 : decode cX1_strike 33 = .ok (.invokevirtual 533, 3) := dk_182 2 21 (dk_at dksX1_strike_1 9 rfl rfl)
theorem dX1_strike_36 : decode cX1_strike 36 = .ok (.aload_n 0, 1) := dk_42 (dk_at dksX1_strike_1 12 rfl rfl)
theorem dX1_strike_37 : decode cX1_strike 37 = .ok (.getfield 10, 3) := dk_180 0 10 (dk_at dksX1_strike_1 13 rfl rfl)
theorem dX1_strike_40 : decode cX1_strike 40 = .ok (.getfield 415, 3) := dk_180 1 159 (dk_at dksX1_strike_1 16 rfl rfl)
theorem dX1_strike_43 : decode cX1_strike 43 = .ok (.iload_n 1, 1) := dk_27 (dk_at dksX1_strike_1 19 rfl rfl)
theorem dX1_strike_44 : decode cX1_strike 44 = .ok (.aaload, 1) := dk_50 (dk_at dksX1_strike_1 20 rfl rfl)
theorem dX1_strike_45 : decode cX1_strike 45 = .ok (.iload_n 2, 1) := dk_28 (dk_at dksX1_strike_1 21 rfl rfl)
theorem dX1_strike_46 : decode cX1_strike 46 = .ok (.iaload, 1) := dk_46 (dk_at dksX1_strike_1 22 rfl rfl)
theorem dX1_strike_47 : decode cX1_strike 47 = .ok (.istore_n 3, 1) := dk_62 (dk_at dksX1_strike_1 23 rfl rfl)
theorem dX1_strike_48 : decode cX1_strike 48 = .ok (.aload_n 0, 1) := dk_42 (dk_at dksX1_strike_2 0 rfl rfl)
theorem dX1_strike_49 : decode cX1_strike 49 = .ok (.getfield 10, 3) := dk_180 0 10 (dk_at dksX1_strike_2 1 rfl rfl)
theorem dX1_strike_52 : decode cX1_strike 52 = .ok (.getfield 415, 3) := dk_180 1 159 (dk_at dksX1_strike_2 4 rfl rfl)
theorem dX1_strike_55 : decode cX1_strike 55 = .ok (.iload_n 1, 1) := dk_27 (dk_at dksX1_strike_2 7 rfl rfl)
theorem dX1_strike_56 : decode cX1_strike 56 = .ok (.aaload, 1) := dk_50 (dk_at dksX1_strike_2 8 rfl rfl)
theorem dX1_strike_57 : decode cX1_strike 57 = .ok (.iload_n 2, 1) := dk_28 (dk_at dksX1_strike_2 9 rfl rfl)
theorem dX1_strike_58 : decode cX1_strike 58 = .ok (.iconst (-1), 1) := dk_2 (dk_at dksX1_strike_2 10 rfl rfl)
theorem dX1_strike_59 : decode cX1_strike 59 = .ok (.iastore, 1) := dk_79 (dk_at dksX1_strike_2 11 rfl rfl)
theorem dX1_strike_60 : decode cX1_strike 60 = .ok (.iload_n 3, 1) := dk_29 (dk_at dksX1_strike_2 12 rfl rfl)
theorem dX1_strike_61 : decode cX1_strike 61 = .ok (.ireturn, 1) := dk_172 (dk_at dksX1_strike_2 13 rfl rfl)
abbrev cX1_change : ByteArray := prog_1_method_57_code
def yX1_change : MethodName := ⟨RX1, "change", "(III)I"⟩
def dkwX1_change_3 : List UInt8 := [21, 4, 79, 42, 180, 0, 10, 180, 1, 159, 27, 50, 29, 46, 172]
abbrev dktX1_change_3 : List UInt8 := dkwX1_change_3 ++ []
def dkwX1_change_2 : List UInt8 := [50, 29, 42, 180, 0, 10, 180, 1, 159, 28, 50, 29, 46, 79, 42, 180, 0, 10, 180, 1, 159, 28, 50, 29]
abbrev dktX1_change_2 : List UInt8 := dkwX1_change_2 ++ dktX1_change_3
def dkwX1_change_1 : List UInt8 := [182, 2, 21, 42, 180, 0, 10, 180, 1, 159, 27, 50, 29, 46, 54, 4, 42, 180, 0, 10, 180, 1, 159, 27]
abbrev dktX1_change_1 : List UInt8 := dkwX1_change_1 ++ dktX1_change_2
def dkwX1_change_0 : List UInt8 := [42, 27, 28, 182, 2, 24, 29, 184, 1, 239, 27, 28, 159, 0, 7, 4, 167, 0, 4, 3, 184, 1, 242, 42]
abbrev dktX1_change_0 : List UInt8 := dkwX1_change_0 ++ dktX1_change_1
theorem dksX1_change_0 : cX1_change.data.toList.drop 0 = dktX1_change_0 := by decide +kernel
theorem dksX1_change_1 : cX1_change.data.toList.drop 24 = dktX1_change_1 := dk_seg dksX1_change_0 24 rfl rfl
theorem dksX1_change_2 : cX1_change.data.toList.drop 48 = dktX1_change_2 := dk_seg dksX1_change_1 24 rfl rfl
theorem dksX1_change_3 : cX1_change.data.toList.drop 72 = dktX1_change_3 := dk_seg dksX1_change_2 24 rfl rfl
theorem dX1_change_0 : decode cX1_change 0 = .ok (.aload_n 0, 1) := dk_42 (dk_at dksX1_change_0 0 rfl rfl)
theorem dX1_change_1 : decode cX1_change 1 = .ok (.iload_n 1, 1) := dk_27 (dk_at dksX1_change_0 1 rfl rfl)
theorem dX1_change_2 : decode cX1_change 2 = .ok (.iload_n 2, 1) := dk_28 (dk_at dksX1_change_0 2 rfl rfl)
theorem dX1_change_3 : decode cX1_change 3 = .ok (.invokevirtual 536, 3) := dk_182 2 24 (dk_at dksX1_change_0 3 rfl rfl)
theorem dX1_change_6 : decode cX1_change 6 = .ok (.iload_n 3, 1) := dk_29 (dk_at dksX1_change_0 6 rfl rfl)
theorem dX1_change_7 : decode cX1_change 7 = .ok (.invokestatic 495, 3) := dk_184 1 239 (dk_at dksX1_change_0 7 rfl rfl)
theorem dX1_change_10 : decode cX1_change 10 = .ok (.iload_n 1, 1) := dk_27 (dk_at dksX1_change_0 10 rfl rfl)
theorem dX1_change_11 : decode cX1_change 11 = .ok (.iload_n 2, 1) := dk_28 (dk_at dksX1_change_0 11 rfl rfl)
theorem dX1_change_12 : decode cX1_change 12 = .ok (.if_icmp .eq 7, 3) := dk_159 0 7 (dk_at dksX1_change_0 12 rfl rfl)
theorem dX1_change_15 : decode cX1_change 15 = .ok (.iconst 1, 1) := dk_4 (dk_at dksX1_change_0 15 rfl rfl)
theorem dX1_change_16 : decode cX1_change 16 = .ok (.goto 4, 3) := dk_167 0 4 (dk_at dksX1_change_0 16 rfl rfl)
theorem dX1_change_19 : decode cX1_change 19 = .ok (.iconst 0, 1) := dk_3 (dk_at dksX1_change_0 19 rfl rfl)
theorem dX1_change_20 : decode cX1_change 20 = .ok (.invokestatic 498, 3) := dk_184 1 242 (dk_at dksX1_change_0 20 rfl rfl)
theorem dX1_change_23 : decode cX1_change 23 = .ok (.aload_n 0, 1) := dk_42 (dk_at dksX1_change_0 23 rfl rfl)
theorem dX1_change_24 : decode cX1_change 24 = .ok (.invokevirtual 533, 3) := dk_182 2 21 (dk_at dksX1_change_1 0 rfl rfl)
theorem dX1_change_27 : decode cX1_change 27 = .ok (.aload_n 0, 1) := dk_42 (dk_at dksX1_change_1 3 rfl rfl)
theorem dX1_change_28 : decode cX1_change 28 = .ok (.getfield 10, 3) := dk_180 0 10 (dk_at dksX1_change_1 4 rfl rfl)
theorem dX1_change_31 : decode cX1_change 31 = .ok (.getfield 415, 3) := dk_180 1 159 (dk_at dksX1_change_1 7 rfl rfl)
theorem dX1_change_34 : decode cX1_change 34 = .ok (.iload_n 1, 1) := dk_27 (dk_at dksX1_change_1 10 rfl rfl)
theorem dX1_change_35 : decode cX1_change 35 = .ok (.aaload, 1) := dk_50 (dk_at dksX1_change_1 11 rfl rfl)
theorem dX1_change_36 : decode cX1_change 36 = .ok (.iload_n 3, 1) := dk_29 (dk_at dksX1_change_1 12 rfl rfl)
theorem dX1_change_37 : decode cX1_change 37 = .ok (.iaload, 1) := dk_46 (dk_at dksX1_change_1 13 rfl rfl)
theorem dX1_change_38 : decode cX1_change 38 = .ok (.istore 4, 2) := dk_54 4 (dk_at dksX1_change_1 14 rfl rfl)
theorem dX1_change_40 : decode cX1_change 40 = .ok (.aload_n 0, 1) := dk_42 (dk_at dksX1_change_1 16 rfl rfl)
theorem dX1_change_41 : decode cX1_change 41 = .ok (.getfield 10, 3) := dk_180 0 10 (dk_at dksX1_change_1 17 rfl rfl)
theorem dX1_change_44 : decode cX1_change 44 = .ok (.getfield 415, 3) := dk_180 1 159 (dk_at dksX1_change_1 20 rfl rfl)
theorem dX1_change_47 : decode cX1_change 47 = .ok (.iload_n 1, 1) := dk_27 (dk_at dksX1_change_1 23 rfl rfl)
theorem dX1_change_48 : decode cX1_change 48 = .ok (.aaload, 1) := dk_50 (dk_at dksX1_change_2 0 rfl rfl)
theorem dX1_change_49 : decode cX1_change 49 = .ok (.iload_n 3, 1) := dk_29 (dk_at dksX1_change_2 1 rfl rfl)
theorem dX1_change_50 : decode cX1_change 50 = .ok (.aload_n 0, 1) := dk_42 (dk_at dksX1_change_2 2 rfl rfl)
theorem dX1_change_51 : decode cX1_change 51 = .ok (.getfield 10, 3) := dk_180 0 10 (dk_at dksX1_change_2 3 rfl rfl)
theorem dX1_change_54 : decode cX1_change 54 = .ok (.getfield 415, 3) := dk_180 1 159 (dk_at dksX1_change_2 6 rfl rfl)
theorem dX1_change_57 : decode cX1_change 57 = .ok (.iload_n 2, 1) := dk_28 (dk_at dksX1_change_2 9 rfl rfl)
theorem dX1_change_58 : decode cX1_change 58 = .ok (.aaload, 1) := dk_50 (dk_at dksX1_change_2 10 rfl rfl)
theorem dX1_change_59 : decode cX1_change 59 = .ok (.iload_n 3, 1) := dk_29 (dk_at dksX1_change_2 11 rfl rfl)
theorem dX1_change_60 : decode cX1_change 60 = .ok (.iaload, 1) := dk_46 (dk_at dksX1_change_2 12 rfl rfl)
theorem dX1_change_61 : decode cX1_change 61 = .ok (.iastore, 1) := dk_79 (dk_at dksX1_change_2 13 rfl rfl)
theorem dX1_change_62 : decode cX1_change 62 = .ok (.aload_n 0, 1) := dk_42 (dk_at dksX1_change_2 14 rfl rfl)
theorem dX1_change_63 : decode cX1_change 63 = .ok (.getfield 10, 3) := dk_180 0 10 (dk_at dksX1_change_2 15 rfl rfl)
theorem dX1_change_66 : decode cX1_change 66 = .ok (.getfield 415, 3) := dk_180 1 159 (dk_at dksX1_change_2 18 rfl rfl)
theorem dX1_change_69 : decode cX1_change 69 = .ok (.iload_n 2, 1) := dk_28 (dk_at dksX1_change_2 21 rfl rfl)
theorem dX1_change_70 : decode cX1_change 70 = .ok (.aaload, 1) := dk_50 (dk_at dksX1_change_2 22 rfl rfl)
theorem dX1_change_71 : decode cX1_change 71 = .ok (.iload_n 3, 1) := dk_29 (dk_at dksX1_change_2 23 rfl rfl)
theorem dX1_change_72 : decode cX1_change 72 = .ok (.iload 4, 2) := dk_21 4 (dk_at dksX1_change_3 0 rfl rfl)
theorem dX1_change_74 : decode cX1_change 74 = .ok (.iastore, 1) := dk_79 (dk_at dksX1_change_3 2 rfl rfl)
theorem dX1_change_75 : decode cX1_change 75 = .ok (.aload_n 0, 1) := dk_42 (dk_at dksX1_change_3 3 rfl rfl)
theorem dX1_change_76 : decode cX1_change 76 = .ok (.getfield 10, 3) := dk_180 0 10 (dk_at dksX1_change_3 4 rfl rfl)
theorem dX1_change_79 : decode cX1_change 79 = .ok (.getfield 415, 3) := dk_180 1 159 (dk_at dksX1_change_3 7 rfl rfl)
theorem dX1_change_82 : decode cX1_change 82 = .ok (.iload_n 1, 1) := dk_27 (dk_at dksX1_change_3 10 rfl rfl)
theorem dX1_change_83 : decode cX1_change 83 = .ok (.aaload, 1) := dk_50 (dk_at dksX1_change_3 11 rfl rfl)
theorem dX1_change_84 : decode cX1_change 84 = .ok (.iload_n 3, 1) := dk_29 (dk_at dksX1_change_3 12 rfl rfl)
theorem dX1_change_85 : decode cX1_change 85 = .ok (.iaload, 1) := dk_46 (dk_at dksX1_change_3 13 rfl rfl)
theorem dX1_change_86 : decode cX1_change 86 = .ok (.ireturn, 1) := dk_172 (dk_at dksX1_change_3 14 rfl rfl)
abbrev cX1_twoHosts : ByteArray := prog_1_method_42_code
def yX1_twoHosts : MethodName := ⟨RX1, "twoHosts", "(II)V"⟩
def dkwX1_twoHosts_0 : List UInt8 := [42, 27, 182, 1, 233, 42, 28, 182, 1, 233, 177]
abbrev dktX1_twoHosts_0 : List UInt8 := dkwX1_twoHosts_0 ++ []
theorem dksX1_twoHosts_0 : cX1_twoHosts.data.toList.drop 0 = dktX1_twoHosts_0 := by decide +kernel
theorem dX1_twoHosts_0 : decode cX1_twoHosts 0 = .ok (.aload_n 0, 1) := dk_42 (dk_at dksX1_twoHosts_0 0 rfl rfl)
theorem dX1_twoHosts_1 : decode cX1_twoHosts 1 = .ok (.iload_n 1, 1) := dk_27 (dk_at dksX1_twoHosts_0 1 rfl rfl)
theorem dX1_twoHosts_2 : decode cX1_twoHosts 2 = .ok (.invokevirtual 489, 3) := dk_182 1 233 (dk_at dksX1_twoHosts_0 2 rfl rfl)
theorem dX1_twoHosts_5 : decode cX1_twoHosts 5 = .ok (.aload_n 0, 1) := dk_42 (dk_at dksX1_twoHosts_0 5 rfl rfl)
theorem dX1_twoHosts_6 : decode cX1_twoHosts 6 = .ok (.iload_n 2, 1) := dk_28 (dk_at dksX1_twoHosts_0 6 rfl rfl)
theorem dX1_twoHosts_7 : decode cX1_twoHosts 7 = .ok (.invokevirtual 489, 3) := dk_182 1 233 (dk_at dksX1_twoHosts_0 7 rfl rfl)
theorem dX1_twoHosts_10 : decode cX1_twoHosts 10 = .ok (.return_, 1) := dk_177 (dk_at dksX1_twoHosts_0 10 rfl rfl)
abbrev cX1_demand : ByteArray := prog_1_method_35_code
def yX1_demand : MethodName := ⟨RX1, "demand", "(Z)V"⟩
def dkwX1_demand_0 : List UInt8 := [26, 154, 0, 11, 187, 0, 253, 89, 183, 0, 255, 191, 177]
abbrev dktX1_demand_0 : List UInt8 := dkwX1_demand_0 ++ []
theorem dksX1_demand_0 : cX1_demand.data.toList.drop 0 = dktX1_demand_0 := by decide +kernel
theorem dX1_demand_0 : decode cX1_demand 0 = .ok (.iload_n 0, 1) := dk_26 (dk_at dksX1_demand_0 0 rfl rfl)
theorem dX1_demand_1 : decode cX1_demand 1 = .ok (.ifCond .ne 11, 3) := dk_154 0 11 (dk_at dksX1_demand_0 1 rfl rfl)
theorem dX1_demand_4 : decode cX1_demand 4 = .ok (.new 253, 3) := dk_187 0 253 (dk_at dksX1_demand_0 4 rfl rfl)
theorem dX1_demand_7 : decode cX1_demand 7 = .ok (.dup, 1) := dk_89 (dk_at dksX1_demand_0 7 rfl rfl)
theorem dX1_demand_8 : decode cX1_demand 8 = .ok (.invokespecial 255, 3) := dk_183 0 255 (dk_at dksX1_demand_0 8 rfl rfl)
theorem dX1_demand_11 : decode cX1_demand 11 = .ok (.athrow, 1) := dk_191 (dk_at dksX1_demand_0 11 rfl rfl)
theorem dX1_demand_12 : decode cX1_demand 12 = .ok (.return_, 1) := dk_177 (dk_at dksX1_demand_0 12 rfl rfl)
abbrev cX1_mark : ByteArray := prog_1_method_58_code
def yX1_mark : MethodName := ⟨RX1, "mark", "(II)I"⟩
def dkwX1_mark_1 : List UInt8 := [180, 0, 178, 27, 46, 62, 42, 180, 0, 10, 180, 0, 178, 27, 28, 79, 29, 172]
abbrev dktX1_mark_1 : List UInt8 := dkwX1_mark_1 ++ []
def dkwX1_mark_0 : List UInt8 := [42, 27, 182, 1, 236, 28, 3, 16, 63, 184, 0, 124, 184, 1, 242, 42, 182, 2, 21, 42, 180, 0, 10]
abbrev dktX1_mark_0 : List UInt8 := dkwX1_mark_0 ++ dktX1_mark_1
theorem dksX1_mark_0 : cX1_mark.data.toList.drop 0 = dktX1_mark_0 := by decide +kernel
theorem dksX1_mark_1 : cX1_mark.data.toList.drop 23 = dktX1_mark_1 := dk_seg dksX1_mark_0 23 rfl rfl
theorem dX1_mark_0 : decode cX1_mark 0 = .ok (.aload_n 0, 1) := dk_42 (dk_at dksX1_mark_0 0 rfl rfl)
theorem dX1_mark_1 : decode cX1_mark 1 = .ok (.iload_n 1, 1) := dk_27 (dk_at dksX1_mark_0 1 rfl rfl)
theorem dX1_mark_2 : decode cX1_mark 2 = .ok (.invokevirtual 492, 3) := dk_182 1 236 (dk_at dksX1_mark_0 2 rfl rfl)
theorem dX1_mark_5 : decode cX1_mark 5 = .ok (.iload_n 2, 1) := dk_28 (dk_at dksX1_mark_0 5 rfl rfl)
theorem dX1_mark_6 : decode cX1_mark 6 = .ok (.iconst 0, 1) := dk_3 (dk_at dksX1_mark_0 6 rfl rfl)
theorem dX1_mark_7 : decode cX1_mark 7 = .ok (.bipush 63, 2) := dk_16 63 (dk_at dksX1_mark_0 7 rfl rfl)
theorem dX1_mark_9 : decode cX1_mark 9 = .ok (.invokestatic 124, 3) := dk_184 0 124 (dk_at dksX1_mark_0 9 rfl rfl)
theorem dX1_mark_12 : decode cX1_mark 12 = .ok (.invokestatic 498, 3) := dk_184 1 242 (dk_at dksX1_mark_0 12 rfl rfl)
theorem dX1_mark_15 : decode cX1_mark 15 = .ok (.aload_n 0, 1) := dk_42 (dk_at dksX1_mark_0 15 rfl rfl)
theorem dX1_mark_16 : decode cX1_mark 16 = .ok (.invokevirtual 533, 3) := dk_182 2 21 (dk_at dksX1_mark_0 16 rfl rfl)
theorem dX1_mark_19 : decode cX1_mark 19 = .ok (.aload_n 0, 1) := dk_42 (dk_at dksX1_mark_0 19 rfl rfl)
theorem dX1_mark_20 : decode cX1_mark 20 = .ok (.getfield 10, 3) := dk_180 0 10 (dk_at dksX1_mark_0 20 rfl rfl)
theorem dX1_mark_23 : decode cX1_mark 23 = .ok (.getfield 178, 3) := dk_180 0 178 (dk_at dksX1_mark_1 0 rfl rfl)
theorem dX1_mark_26 : decode cX1_mark 26 = .ok (.iload_n 1, 1) := dk_27 (dk_at dksX1_mark_1 3 rfl rfl)
theorem dX1_mark_27 : decode cX1_mark 27 = .ok (.iaload, 1) := dk_46 (dk_at dksX1_mark_1 4 rfl rfl)
theorem dX1_mark_28 : decode cX1_mark 28 = .ok (.istore_n 3, 1) := dk_62 (dk_at dksX1_mark_1 5 rfl rfl)
theorem dX1_mark_29 : decode cX1_mark 29 = .ok (.aload_n 0, 1) := dk_42 (dk_at dksX1_mark_1 6 rfl rfl)
theorem dX1_mark_30 : decode cX1_mark 30 = .ok (.getfield 10, 3) := dk_180 0 10 (dk_at dksX1_mark_1 7 rfl rfl)
theorem dX1_mark_33 : decode cX1_mark 33 = .ok (.getfield 178, 3) := dk_180 0 178 (dk_at dksX1_mark_1 10 rfl rfl)
theorem dX1_mark_36 : decode cX1_mark 36 = .ok (.iload_n 1, 1) := dk_27 (dk_at dksX1_mark_1 13 rfl rfl)
theorem dX1_mark_37 : decode cX1_mark 37 = .ok (.iload_n 2, 1) := dk_28 (dk_at dksX1_mark_1 14 rfl rfl)
theorem dX1_mark_38 : decode cX1_mark 38 = .ok (.iastore, 1) := dk_79 (dk_at dksX1_mark_1 15 rfl rfl)
theorem dX1_mark_39 : decode cX1_mark 39 = .ok (.iload_n 3, 1) := dk_29 (dk_at dksX1_mark_1 16 rfl rfl)
theorem dX1_mark_40 : decode cX1_mark 40 = .ok (.ireturn, 1) := dk_172 (dk_at dksX1_mark_1 17 rfl rfl)
abbrev cX1_gate : ByteArray := prog_1_method_59_code
def yX1_gate : MethodName := ⟨RX1, "gate", "(II)I"⟩
def dkwX1_gate_2 : List UInt8 := [180, 0, 231, 96, 62, 42, 180, 0, 10, 27, 181, 0, 229, 42, 180, 0, 10, 28, 181, 0, 231, 29, 172]
abbrev dktX1_gate_2 : List UInt8 := dkwX1_gate_2 ++ []
def dkwX1_gate_1 : List UInt8 := [3, 184, 1, 242, 42, 182, 2, 21, 16, 64, 42, 180, 0, 10, 180, 0, 229, 104, 42, 180, 0, 10]
abbrev dktX1_gate_1 : List UInt8 := dkwX1_gate_1 ++ dktX1_gate_2
def dkwX1_gate_0 : List UInt8 := [27, 3, 16, 63, 184, 0, 124, 153, 0, 17, 28, 3, 16, 63, 184, 0, 124, 153, 0, 7, 4, 167, 0, 4]
abbrev dktX1_gate_0 : List UInt8 := dkwX1_gate_0 ++ dktX1_gate_1
theorem dksX1_gate_0 : cX1_gate.data.toList.drop 0 = dktX1_gate_0 := by decide +kernel
theorem dksX1_gate_1 : cX1_gate.data.toList.drop 24 = dktX1_gate_1 := dk_seg dksX1_gate_0 24 rfl rfl
theorem dksX1_gate_2 : cX1_gate.data.toList.drop 46 = dktX1_gate_2 := dk_seg dksX1_gate_1 22 rfl rfl
theorem dX1_gate_0 : decode cX1_gate 0 = .ok (.iload_n 1, 1) := dk_27 (dk_at dksX1_gate_0 0 rfl rfl)
theorem dX1_gate_1 : decode cX1_gate 1 = .ok (.iconst 0, 1) := dk_3 (dk_at dksX1_gate_0 1 rfl rfl)
theorem dX1_gate_2 : decode cX1_gate 2 = .ok (.bipush 63, 2) := dk_16 63 (dk_at dksX1_gate_0 2 rfl rfl)
theorem dX1_gate_4 : decode cX1_gate 4 = .ok (.invokestatic 124, 3) := dk_184 0 124 (dk_at dksX1_gate_0 4 rfl rfl)
theorem dX1_gate_7 : decode cX1_gate 7 = .ok (.ifCond .eq 17, 3) := dk_153 0 17 (dk_at dksX1_gate_0 7 rfl rfl)
theorem dX1_gate_10 : decode cX1_gate 10 = .ok (.iload_n 2, 1) := dk_28 (dk_at dksX1_gate_0 10 rfl rfl)
theorem dX1_gate_11 : decode cX1_gate 11 = .ok (.iconst 0, 1) := dk_3 (dk_at dksX1_gate_0 11 rfl rfl)
theorem dX1_gate_12 : decode cX1_gate 12 = .ok (.bipush 63, 2) := dk_16 63 (dk_at dksX1_gate_0 12 rfl rfl)
theorem dX1_gate_14 : decode cX1_gate 14 = .ok (.invokestatic 124, 3) := dk_184 0 124 (dk_at dksX1_gate_0 14 rfl rfl)
theorem dX1_gate_17 : decode cX1_gate 17 = .ok (.ifCond .eq 7, 3) := dk_153 0 7 (dk_at dksX1_gate_0 17 rfl rfl)
theorem dX1_gate_20 : decode cX1_gate 20 = .ok (.iconst 1, 1) := dk_4 (dk_at dksX1_gate_0 20 rfl rfl)
theorem dX1_gate_21 : decode cX1_gate 21 = .ok (.goto 4, 3) := dk_167 0 4 (dk_at dksX1_gate_0 21 rfl rfl)
theorem dX1_gate_24 : decode cX1_gate 24 = .ok (.iconst 0, 1) := dk_3 (dk_at dksX1_gate_1 0 rfl rfl)
theorem dX1_gate_25 : decode cX1_gate 25 = .ok (.invokestatic 498, 3) := dk_184 1 242 (dk_at dksX1_gate_1 1 rfl rfl)
theorem dX1_gate_28 : decode cX1_gate 28 = .ok (.aload_n 0, 1) := dk_42 (dk_at dksX1_gate_1 4 rfl rfl)
theorem dX1_gate_29 : decode cX1_gate 29 = .ok (.invokevirtual 533, 3) := dk_182 2 21 (dk_at dksX1_gate_1 5 rfl rfl)
theorem dX1_gate_32 : decode cX1_gate 32 = .ok (.bipush 64, 2) := dk_16 64 (dk_at dksX1_gate_1 8 rfl rfl)
theorem dX1_gate_34 : decode cX1_gate 34 = .ok (.aload_n 0, 1) := dk_42 (dk_at dksX1_gate_1 10 rfl rfl)
theorem dX1_gate_35 : decode cX1_gate 35 = .ok (.getfield 10, 3) := dk_180 0 10 (dk_at dksX1_gate_1 11 rfl rfl)
theorem dX1_gate_38 : decode cX1_gate 38 = .ok (.getfield 229, 3) := dk_180 0 229 (dk_at dksX1_gate_1 14 rfl rfl)
theorem dX1_gate_41 : decode cX1_gate 41 = .ok (.imul, 1) := dk_104 (dk_at dksX1_gate_1 17 rfl rfl)
theorem dX1_gate_42 : decode cX1_gate 42 = .ok (.aload_n 0, 1) := dk_42 (dk_at dksX1_gate_1 18 rfl rfl)
theorem dX1_gate_43 : decode cX1_gate 43 = .ok (.getfield 10, 3) := dk_180 0 10 (dk_at dksX1_gate_1 19 rfl rfl)
theorem dX1_gate_46 : decode cX1_gate 46 = .ok (.getfield 231, 3) := dk_180 0 231 (dk_at dksX1_gate_2 0 rfl rfl)
theorem dX1_gate_49 : decode cX1_gate 49 = .ok (.iadd, 1) := dk_96 (dk_at dksX1_gate_2 3 rfl rfl)
theorem dX1_gate_50 : decode cX1_gate 50 = .ok (.istore_n 3, 1) := dk_62 (dk_at dksX1_gate_2 4 rfl rfl)
theorem dX1_gate_51 : decode cX1_gate 51 = .ok (.aload_n 0, 1) := dk_42 (dk_at dksX1_gate_2 5 rfl rfl)
theorem dX1_gate_52 : decode cX1_gate 52 = .ok (.getfield 10, 3) := dk_180 0 10 (dk_at dksX1_gate_2 6 rfl rfl)
theorem dX1_gate_55 : decode cX1_gate 55 = .ok (.iload_n 1, 1) := dk_27 (dk_at dksX1_gate_2 9 rfl rfl)
theorem dX1_gate_56 : decode cX1_gate 56 = .ok (.putfield 229, 3) := dk_181 0 229 (dk_at dksX1_gate_2 10 rfl rfl)
theorem dX1_gate_59 : decode cX1_gate 59 = .ok (.aload_n 0, 1) := dk_42 (dk_at dksX1_gate_2 13 rfl rfl)
theorem dX1_gate_60 : decode cX1_gate 60 = .ok (.getfield 10, 3) := dk_180 0 10 (dk_at dksX1_gate_2 14 rfl rfl)
theorem dX1_gate_63 : decode cX1_gate 63 = .ok (.iload_n 2, 1) := dk_28 (dk_at dksX1_gate_2 17 rfl rfl)
theorem dX1_gate_64 : decode cX1_gate 64 = .ok (.putfield 231, 3) := dk_181 0 231 (dk_at dksX1_gate_2 18 rfl rfl)
theorem dX1_gate_67 : decode cX1_gate 67 = .ok (.iload_n 3, 1) := dk_29 (dk_at dksX1_gate_2 21 rfl rfl)
theorem dX1_gate_68 : decode cX1_gate 68 = .ok (.ireturn, 1) := dk_172 (dk_at dksX1_gate_2 22 rfl rfl)
abbrev cX1_value : ByteArray := prog_1_method_60_code
def yX1_value : MethodName := ⟨RX1, "value", "(IIZI)I"⟩
def dkwX1_value_3 : List UInt8 := [50, 28, 21, 4, 79, 167, 0, 16, 42, 180, 0, 10, 180, 0, 165, 28, 50, 27, 21, 4, 79, 21, 5, 172]
abbrev dktX1_value_3 : List UInt8 := dkwX1_value_3 ++ []
def dkwX1_value_2 : List UInt8 := [180, 0, 10, 180, 0, 165, 28, 50, 27, 46, 54, 5, 29, 153, 0, 19, 42, 180, 0, 10, 180, 0, 155, 27]
abbrev dktX1_value_2 : List UInt8 := dkwX1_value_2 ++ dktX1_value_3
def dkwX1_value_1 : List UInt8 := [182, 2, 21, 29, 153, 0, 17, 42, 180, 0, 10, 180, 0, 155, 27, 50, 28, 46, 167, 0, 14, 42]
abbrev dktX1_value_1 : List UInt8 := dkwX1_value_1 ++ dktX1_value_2
def dkwX1_value_0 : List UInt8 := [42, 27, 182, 1, 233, 42, 28, 182, 1, 236, 21, 4, 3, 16, 9, 184, 0, 124, 184, 1, 242, 42]
abbrev dktX1_value_0 : List UInt8 := dkwX1_value_0 ++ dktX1_value_1
theorem dksX1_value_0 : cX1_value.data.toList.drop 0 = dktX1_value_0 := by decide +kernel
theorem dksX1_value_1 : cX1_value.data.toList.drop 22 = dktX1_value_1 := dk_seg dksX1_value_0 22 rfl rfl
theorem dksX1_value_2 : cX1_value.data.toList.drop 44 = dktX1_value_2 := dk_seg dksX1_value_1 22 rfl rfl
theorem dksX1_value_3 : cX1_value.data.toList.drop 68 = dktX1_value_3 := dk_seg dksX1_value_2 24 rfl rfl
theorem dX1_value_0 : decode cX1_value 0 = .ok (.aload_n 0, 1) := dk_42 (dk_at dksX1_value_0 0 rfl rfl)
theorem dX1_value_1 : decode cX1_value 1 = .ok (.iload_n 1, 1) := dk_27 (dk_at dksX1_value_0 1 rfl rfl)
theorem dX1_value_2 : decode cX1_value 2 = .ok (.invokevirtual 489, 3) := dk_182 1 233 (dk_at dksX1_value_0 2 rfl rfl)
theorem dX1_value_5 : decode cX1_value 5 = .ok (.aload_n 0, 1) := dk_42 (dk_at dksX1_value_0 5 rfl rfl)
theorem dX1_value_6 : decode cX1_value 6 = .ok (.iload_n 2, 1) := dk_28 (dk_at dksX1_value_0 6 rfl rfl)
theorem dX1_value_7 : decode cX1_value 7 = .ok (.invokevirtual 492, 3) := dk_182 1 236 (dk_at dksX1_value_0 7 rfl rfl)
theorem dX1_value_10 : decode cX1_value 10 = .ok (.iload 4, 2) := dk_21 4 (dk_at dksX1_value_0 10 rfl rfl)
theorem dX1_value_12 : decode cX1_value 12 = .ok (.iconst 0, 1) := dk_3 (dk_at dksX1_value_0 12 rfl rfl)
theorem dX1_value_13 : decode cX1_value 13 = .ok (.bipush 9, 2) := dk_16 9 (dk_at dksX1_value_0 13 rfl rfl)
theorem dX1_value_15 : decode cX1_value 15 = .ok (.invokestatic 124, 3) := dk_184 0 124 (dk_at dksX1_value_0 15 rfl rfl)
theorem dX1_value_18 : decode cX1_value 18 = .ok (.invokestatic 498, 3) := dk_184 1 242 (dk_at dksX1_value_0 18 rfl rfl)
theorem dX1_value_21 : decode cX1_value 21 = .ok (.aload_n 0, 1) := dk_42 (dk_at dksX1_value_0 21 rfl rfl)
theorem dX1_value_22 : decode cX1_value 22 = .ok (.invokevirtual 533, 3) := dk_182 2 21 (dk_at dksX1_value_1 0 rfl rfl)
theorem dX1_value_25 : decode cX1_value 25 = .ok (.iload_n 3, 1) := dk_29 (dk_at dksX1_value_1 3 rfl rfl)
theorem dX1_value_26 : decode cX1_value 26 = .ok (.ifCond .eq 17, 3) := dk_153 0 17 (dk_at dksX1_value_1 4 rfl rfl)
theorem dX1_value_29 : decode cX1_value 29 = .ok (.aload_n 0, 1) := dk_42 (dk_at dksX1_value_1 7 rfl rfl)
theorem dX1_value_30 : decode cX1_value 30 = .ok (.getfield 10, 3) := dk_180 0 10 (dk_at dksX1_value_1 8 rfl rfl)
theorem dX1_value_33 : decode cX1_value 33 = .ok (.getfield 155, 3) := dk_180 0 155 (dk_at dksX1_value_1 11 rfl rfl)
theorem dX1_value_36 : decode cX1_value 36 = .ok (.iload_n 1, 1) := dk_27 (dk_at dksX1_value_1 14 rfl rfl)
theorem dX1_value_37 : decode cX1_value 37 = .ok (.aaload, 1) := dk_50 (dk_at dksX1_value_1 15 rfl rfl)
theorem dX1_value_38 : decode cX1_value 38 = .ok (.iload_n 2, 1) := dk_28 (dk_at dksX1_value_1 16 rfl rfl)
theorem dX1_value_39 : decode cX1_value 39 = .ok (.iaload, 1) := dk_46 (dk_at dksX1_value_1 17 rfl rfl)
theorem dX1_value_40 : decode cX1_value 40 = .ok (.goto 14, 3) := dk_167 0 14 (dk_at dksX1_value_1 18 rfl rfl)
theorem dX1_value_43 : decode cX1_value 43 = .ok (.aload_n 0, 1) := dk_42 (dk_at dksX1_value_1 21 rfl rfl)
theorem dX1_value_44 : decode cX1_value 44 = .ok (.getfield 10, 3) := dk_180 0 10 (dk_at dksX1_value_2 0 rfl rfl)
theorem dX1_value_47 : decode cX1_value 47 = .ok (.getfield 165, 3) := dk_180 0 165 (dk_at dksX1_value_2 3 rfl rfl)
theorem dX1_value_50 : decode cX1_value 50 = .ok (.iload_n 2, 1) := dk_28 (dk_at dksX1_value_2 6 rfl rfl)
theorem dX1_value_51 : decode cX1_value 51 = .ok (.aaload, 1) := dk_50 (dk_at dksX1_value_2 7 rfl rfl)
theorem dX1_value_52 : decode cX1_value 52 = .ok (.iload_n 1, 1) := dk_27 (dk_at dksX1_value_2 8 rfl rfl)
theorem dX1_value_53 : decode cX1_value 53 = .ok (.iaload, 1) := dk_46 (dk_at dksX1_value_2 9 rfl rfl)
theorem dX1_value_54 : decode cX1_value 54 = .ok (.istore 5, 2) := dk_54 5 (dk_at dksX1_value_2 10 rfl rfl)
theorem dX1_value_56 : decode cX1_value 56 = .ok (.iload_n 3, 1) := dk_29 (dk_at dksX1_value_2 12 rfl rfl)
theorem dX1_value_57 : decode cX1_value 57 = .ok (.ifCond .eq 19, 3) := dk_153 0 19 (dk_at dksX1_value_2 13 rfl rfl)
theorem dX1_value_60 : decode cX1_value 60 = .ok (.aload_n 0, 1) := dk_42 (dk_at dksX1_value_2 16 rfl rfl)
theorem dX1_value_61 : decode cX1_value 61 = .ok (.getfield 10, 3) := dk_180 0 10 (dk_at dksX1_value_2 17 rfl rfl)
theorem dX1_value_64 : decode cX1_value 64 = .ok (.getfield 155, 3) := dk_180 0 155 (dk_at dksX1_value_2 20 rfl rfl)
theorem dX1_value_67 : decode cX1_value 67 = .ok (.iload_n 1, 1) := dk_27 (dk_at dksX1_value_2 23 rfl rfl)
theorem dX1_value_68 : decode cX1_value 68 = .ok (.aaload, 1) := dk_50 (dk_at dksX1_value_3 0 rfl rfl)
theorem dX1_value_69 : decode cX1_value 69 = .ok (.iload_n 2, 1) := dk_28 (dk_at dksX1_value_3 1 rfl rfl)
theorem dX1_value_70 : decode cX1_value 70 = .ok (.iload 4, 2) := dk_21 4 (dk_at dksX1_value_3 2 rfl rfl)
theorem dX1_value_72 : decode cX1_value 72 = .ok (.iastore, 1) := dk_79 (dk_at dksX1_value_3 4 rfl rfl)
theorem dX1_value_73 : decode cX1_value 73 = .ok (.goto 16, 3) := dk_167 0 16 (dk_at dksX1_value_3 5 rfl rfl)
theorem dX1_value_76 : decode cX1_value 76 = .ok (.aload_n 0, 1) := dk_42 (dk_at dksX1_value_3 8 rfl rfl)
theorem dX1_value_77 : decode cX1_value 77 = .ok (.getfield 10, 3) := dk_180 0 10 (dk_at dksX1_value_3 9 rfl rfl)
theorem dX1_value_80 : decode cX1_value 80 = .ok (.getfield 165, 3) := dk_180 0 165 (dk_at dksX1_value_3 12 rfl rfl)
theorem dX1_value_83 : decode cX1_value 83 = .ok (.iload_n 2, 1) := dk_28 (dk_at dksX1_value_3 15 rfl rfl)
theorem dX1_value_84 : decode cX1_value 84 = .ok (.aaload, 1) := dk_50 (dk_at dksX1_value_3 16 rfl rfl)
theorem dX1_value_85 : decode cX1_value 85 = .ok (.iload_n 1, 1) := dk_27 (dk_at dksX1_value_3 17 rfl rfl)
theorem dX1_value_86 : decode cX1_value 86 = .ok (.iload 4, 2) := dk_21 4 (dk_at dksX1_value_3 18 rfl rfl)
theorem dX1_value_88 : decode cX1_value 88 = .ok (.iastore, 1) := dk_79 (dk_at dksX1_value_3 20 rfl rfl)
theorem dX1_value_89 : decode cX1_value 89 = .ok (.iload 5, 2) := dk_21 5 (dk_at dksX1_value_3 21 rfl rfl)
theorem dX1_value_91 : decode cX1_value 91 = .ok (.ireturn, 1) := dk_172 (dk_at dksX1_value_3 23 rfl rfl)
abbrev cX1_weeks : ByteArray := prog_1_method_61_code
def yX1_weeks : MethodName := ⟨RX1, "weeks", "(I)I"⟩
def dkwX1_weeks_1 : List UInt8 := [42, 42, 180, 0, 10, 4, 4, 182, 1, 217, 96, 61, 132, 3, 1, 167, 255, 235, 28, 172]
abbrev dktX1_weeks_1 : List UInt8 := dkwX1_weeks_1 ++ []
def dkwX1_weeks_0 : List UInt8 := [27, 4, 16, 60, 184, 0, 124, 184, 1, 242, 42, 182, 2, 21, 3, 61, 3, 62, 29, 27, 162, 0, 22, 28]
abbrev dktX1_weeks_0 : List UInt8 := dkwX1_weeks_0 ++ dktX1_weeks_1
theorem dksX1_weeks_0 : cX1_weeks.data.toList.drop 0 = dktX1_weeks_0 := by decide +kernel
theorem dksX1_weeks_1 : cX1_weeks.data.toList.drop 24 = dktX1_weeks_1 := dk_seg dksX1_weeks_0 24 rfl rfl
theorem dX1_weeks_0 : decode cX1_weeks 0 = .ok (.iload_n 1, 1) := dk_27 (dk_at dksX1_weeks_0 0 rfl rfl)
theorem dX1_weeks_1 : decode cX1_weeks 1 = .ok (.iconst 1, 1) := dk_4 (dk_at dksX1_weeks_0 1 rfl rfl)
theorem dX1_weeks_2 : decode cX1_weeks 2 = .ok (.bipush 60, 2) := dk_16 60 (dk_at dksX1_weeks_0 2 rfl rfl)
theorem dX1_weeks_4 : decode cX1_weeks 4 = .ok (.invokestatic 124, 3) := dk_184 0 124 (dk_at dksX1_weeks_0 4 rfl rfl)
theorem dX1_weeks_7 : decode cX1_weeks 7 = .ok (.invokestatic 498, 3) := dk_184 1 242 (dk_at dksX1_weeks_0 7 rfl rfl)
theorem dX1_weeks_10 : decode cX1_weeks 10 = .ok (.aload_n 0, 1) := dk_42 (dk_at dksX1_weeks_0 10 rfl rfl)
theorem dX1_weeks_11 : decode cX1_weeks 11 = .ok (.invokevirtual 533, 3) := dk_182 2 21 (dk_at dksX1_weeks_0 11 rfl rfl)
theorem dX1_weeks_14 : decode cX1_weeks 14 = .ok (.iconst 0, 1) := dk_3 (dk_at dksX1_weeks_0 14 rfl rfl)
theorem dX1_weeks_15 : decode cX1_weeks 15 = .ok (.istore_n 2, 1) := dk_61 (dk_at dksX1_weeks_0 15 rfl rfl)
theorem dX1_weeks_16 : decode cX1_weeks 16 = .ok (.iconst 0, 1) := dk_3 (dk_at dksX1_weeks_0 16 rfl rfl)
theorem dX1_weeks_17 : decode cX1_weeks 17 = .ok (.istore_n 3, 1) := dk_62 (dk_at dksX1_weeks_0 17 rfl rfl)
theorem dX1_weeks_18 : decode cX1_weeks 18 = .ok (.iload_n 3, 1) := dk_29 (dk_at dksX1_weeks_0 18 rfl rfl)
theorem dX1_weeks_19 : decode cX1_weeks 19 = .ok (.iload_n 1, 1) := dk_27 (dk_at dksX1_weeks_0 19 rfl rfl)
theorem dX1_weeks_20 : decode cX1_weeks 20 = .ok (.if_icmp .ge 22, 3) := dk_162 0 22 (dk_at dksX1_weeks_0 20 rfl rfl)
theorem dX1_weeks_23 : decode cX1_weeks 23 = .ok (.iload_n 2, 1) := dk_28 (dk_at dksX1_weeks_0 23 rfl rfl)
theorem dX1_weeks_24 : decode cX1_weeks 24 = .ok (.aload_n 0, 1) := dk_42 (dk_at dksX1_weeks_1 0 rfl rfl)
theorem dX1_weeks_25 : decode cX1_weeks 25 = .ok (.aload_n 0, 1) := dk_42 (dk_at dksX1_weeks_1 1 rfl rfl)
theorem dX1_weeks_26 : decode cX1_weeks 26 = .ok (.getfield 10, 3) := dk_180 0 10 (dk_at dksX1_weeks_1 2 rfl rfl)
theorem dX1_weeks_29 : decode cX1_weeks 29 = .ok (.iconst 1, 1) := dk_4 (dk_at dksX1_weeks_1 5 rfl rfl)
theorem dX1_weeks_30 : decode cX1_weeks 30 = .ok (.iconst 1, 1) := dk_4 (dk_at dksX1_weeks_1 6 rfl rfl)
theorem dX1_weeks_31 : decode cX1_weeks 31 = .ok (.invokevirtual 473, 3) := dk_182 1 217 (dk_at dksX1_weeks_1 7 rfl rfl)
theorem dX1_weeks_34 : decode cX1_weeks 34 = .ok (.iadd, 1) := dk_96 (dk_at dksX1_weeks_1 10 rfl rfl)
theorem dX1_weeks_35 : decode cX1_weeks 35 = .ok (.istore_n 2, 1) := dk_61 (dk_at dksX1_weeks_1 11 rfl rfl)
theorem dX1_weeks_36 : decode cX1_weeks 36 = .ok (.iinc 3 1, 3) := dk_132 3 1 (dk_at dksX1_weeks_1 12 rfl rfl)
theorem dX1_weeks_39 : decode cX1_weeks 39 = .ok (.goto (-21), 3) := dk_167 255 235 (dk_at dksX1_weeks_1 15 rfl rfl)
theorem dX1_weeks_42 : decode cX1_weeks 42 = .ok (.iload_n 2, 1) := dk_28 (dk_at dksX1_weeks_1 18 rfl rfl)
theorem dX1_weeks_43 : decode cX1_weeks 43 = .ok (.ireturn, 1) := dk_172 (dk_at dksX1_weeks_1 19 rfl rfl)
abbrev cX1_aWeek : ByteArray := prog_1_method_32_code
def yX1_aWeek : MethodName := ⟨RX1, "aWeek", "(LVisitingHours$World;ZZ)I"⟩
def dkwX1_aWeek_4 : List UInt8 := [29, 182, 1, 210, 132, 5, 1, 167, 255, 228, 43, 182, 1, 214, 21, 4, 172]
abbrev dktX1_aWeek_4 : List UInt8 := dkwX1_aWeek_4 ++ []
def dkwX1_aWeek_3 : List UInt8 := [3, 54, 5, 21, 5, 43, 180, 0, 132, 162, 0, 25, 43, 21, 5, 42, 180, 1, 200, 21, 5, 184, 0, 128]
abbrev dktX1_aWeek_3 : List UInt8 := dkwX1_aWeek_3 ++ dktX1_aWeek_4
def dkwX1_aWeek_2 : List UInt8 := [153, 0, 7, 3, 167, 0, 11, 42, 43, 21, 5, 29, 182, 1, 206, 96, 54, 4, 132, 5, 1, 167, 255, 200]
abbrev dktX1_aWeek_2 : List UInt8 := dkwX1_aWeek_2 ++ dktX1_aWeek_3
def dkwX1_aWeek_1 : List UInt8 := [16, 100, 182, 1, 203, 43, 180, 0, 225, 162, 0, 7, 4, 167, 0, 4, 3, 54, 6, 21, 4, 21, 6]
abbrev dktX1_aWeek_1 : List UInt8 := dkwX1_aWeek_1 ++ dktX1_aWeek_2
def dkwX1_aWeek_0 : List UInt8 := [3, 54, 4, 42, 3, 181, 1, 200, 3, 54, 5, 21, 5, 16, 8, 162, 0, 55, 28, 153, 0, 20, 43]
abbrev dktX1_aWeek_0 : List UInt8 := dkwX1_aWeek_0 ++ dktX1_aWeek_1
theorem dksX1_aWeek_0 : cX1_aWeek.data.toList.drop 0 = dktX1_aWeek_0 := by decide +kernel
theorem dksX1_aWeek_1 : cX1_aWeek.data.toList.drop 23 = dktX1_aWeek_1 := dk_seg dksX1_aWeek_0 23 rfl rfl
theorem dksX1_aWeek_2 : cX1_aWeek.data.toList.drop 46 = dktX1_aWeek_2 := dk_seg dksX1_aWeek_1 23 rfl rfl
theorem dksX1_aWeek_3 : cX1_aWeek.data.toList.drop 70 = dktX1_aWeek_3 := dk_seg dksX1_aWeek_2 24 rfl rfl
theorem dksX1_aWeek_4 : cX1_aWeek.data.toList.drop 94 = dktX1_aWeek_4 := dk_seg dksX1_aWeek_3 24 rfl rfl
theorem dX1_aWeek_0 : decode cX1_aWeek 0 = .ok (.iconst 0, 1) := dk_3 (dk_at dksX1_aWeek_0 0 rfl rfl)
theorem dX1_aWeek_1 : decode cX1_aWeek 1 = .ok (.istore 4, 2) := dk_54 4 (dk_at dksX1_aWeek_0 1 rfl rfl)
theorem dX1_aWeek_3 : decode cX1_aWeek 3 = .ok (.aload_n 0, 1) := dk_42 (dk_at dksX1_aWeek_0 3 rfl rfl)
theorem dX1_aWeek_4 : decode cX1_aWeek 4 = .ok (.iconst 0, 1) := dk_3 (dk_at dksX1_aWeek_0 4 rfl rfl)
theorem dX1_aWeek_5 : decode cX1_aWeek 5 = .ok (.putfield 456, 3) := dk_181 1 200 (dk_at dksX1_aWeek_0 5 rfl rfl)
theorem dX1_aWeek_8 : decode cX1_aWeek 8 = .ok (.iconst 0, 1) := dk_3 (dk_at dksX1_aWeek_0 8 rfl rfl)
theorem dX1_aWeek_9 : decode cX1_aWeek 9 = .ok (.istore 5, 2) := dk_54 5 (dk_at dksX1_aWeek_0 9 rfl rfl)
theorem dX1_aWeek_11 : decode cX1_aWeek 11 = .ok (.iload 5, 2) := dk_21 5 (dk_at dksX1_aWeek_0 11 rfl rfl)
theorem dX1_aWeek_13 : decode cX1_aWeek 13 = .ok (.bipush 8, 2) := dk_16 8 (dk_at dksX1_aWeek_0 13 rfl rfl)
theorem dX1_aWeek_15 : decode cX1_aWeek 15 = .ok (.if_icmp .ge 55, 3) := dk_162 0 55 (dk_at dksX1_aWeek_0 15 rfl rfl)
theorem dX1_aWeek_18 : decode cX1_aWeek 18 = .ok (.iload_n 2, 1) := dk_28 (dk_at dksX1_aWeek_0 18 rfl rfl)
theorem dX1_aWeek_19 : decode cX1_aWeek 19 = .ok (.ifCond .eq 20, 3) := dk_153 0 20 (dk_at dksX1_aWeek_0 19 rfl rfl)
theorem dX1_aWeek_22 : decode cX1_aWeek 22 = .ok (.aload_n 1, 1) := dk_43 (dk_at dksX1_aWeek_0 22 rfl rfl)
theorem dX1_aWeek_23 : decode cX1_aWeek 23 = .ok (.bipush 100, 2) := dk_16 100 (dk_at dksX1_aWeek_1 0 rfl rfl)
theorem dX1_aWeek_25 : decode cX1_aWeek 25 = .ok (.invokevirtual 459, 3) := dk_182 1 203 (dk_at dksX1_aWeek_1 2 rfl rfl)
theorem dX1_aWeek_28 : decode cX1_aWeek 28 = .ok (.aload_n 1, 1) := dk_43 (dk_at dksX1_aWeek_1 5 rfl rfl)
theorem dX1_aWeek_29 : decode cX1_aWeek 29 = .ok (.getfield 225, 3) := dk_180 0 225 (dk_at dksX1_aWeek_1 6 rfl rfl)
theorem dX1_aWeek_32 : decode cX1_aWeek 32 = .ok (.if_icmp .ge 7, 3) := dk_162 0 7 (dk_at dksX1_aWeek_1 9 rfl rfl)
theorem dX1_aWeek_35 : decode cX1_aWeek 35 = .ok (.iconst 1, 1) := dk_4 (dk_at dksX1_aWeek_1 12 rfl rfl)
theorem dX1_aWeek_36 : decode cX1_aWeek 36 = .ok (.goto 4, 3) := dk_167 0 4 (dk_at dksX1_aWeek_1 13 rfl rfl)
theorem dX1_aWeek_39 : decode cX1_aWeek 39 = .ok (.iconst 0, 1) := dk_3 (dk_at dksX1_aWeek_1 16 rfl rfl)
theorem dX1_aWeek_40 : decode cX1_aWeek 40 = .ok (.istore 6, 2) := dk_54 6 (dk_at dksX1_aWeek_1 17 rfl rfl)
theorem dX1_aWeek_42 : decode cX1_aWeek 42 = .ok (.iload 4, 2) := dk_21 4 (dk_at dksX1_aWeek_1 19 rfl rfl)
theorem dX1_aWeek_44 : decode cX1_aWeek 44 = .ok (.iload 6, 2) := dk_21 6 (dk_at dksX1_aWeek_1 21 rfl rfl)
theorem dX1_aWeek_46 : decode cX1_aWeek 46 = .ok (.ifCond .eq 7, 3) := dk_153 0 7 (dk_at dksX1_aWeek_2 0 rfl rfl)
theorem dX1_aWeek_49 : decode cX1_aWeek 49 = .ok (.iconst 0, 1) := dk_3 (dk_at dksX1_aWeek_2 3 rfl rfl)
theorem dX1_aWeek_50 : decode cX1_aWeek 50 = .ok (.goto 11, 3) := dk_167 0 11 (dk_at dksX1_aWeek_2 4 rfl rfl)
theorem dX1_aWeek_53 : decode cX1_aWeek 53 = .ok (.aload_n 0, 1) := dk_42 (dk_at dksX1_aWeek_2 7 rfl rfl)
theorem dX1_aWeek_54 : decode cX1_aWeek 54 = .ok (.aload_n 1, 1) := dk_43 (dk_at dksX1_aWeek_2 8 rfl rfl)
theorem dX1_aWeek_55 : decode cX1_aWeek 55 = .ok (.iload 5, 2) := dk_21 5 (dk_at dksX1_aWeek_2 9 rfl rfl)
theorem dX1_aWeek_57 : decode cX1_aWeek 57 = .ok (.iload_n 3, 1) := dk_29 (dk_at dksX1_aWeek_2 11 rfl rfl)
theorem dX1_aWeek_58 : decode cX1_aWeek 58 = .ok (.invokevirtual 462, 3) := dk_182 1 206 (dk_at dksX1_aWeek_2 12 rfl rfl)
theorem dX1_aWeek_61 : decode cX1_aWeek 61 = .ok (.iadd, 1) := dk_96 (dk_at dksX1_aWeek_2 15 rfl rfl)
theorem dX1_aWeek_62 : decode cX1_aWeek 62 = .ok (.istore 4, 2) := dk_54 4 (dk_at dksX1_aWeek_2 16 rfl rfl)
theorem dX1_aWeek_64 : decode cX1_aWeek 64 = .ok (.iinc 5 1, 3) := dk_132 5 1 (dk_at dksX1_aWeek_2 18 rfl rfl)
theorem dX1_aWeek_67 : decode cX1_aWeek 67 = .ok (.goto (-56), 3) := dk_167 255 200 (dk_at dksX1_aWeek_2 21 rfl rfl)
theorem dX1_aWeek_70 : decode cX1_aWeek 70 = .ok (.iconst 0, 1) := dk_3 (dk_at dksX1_aWeek_3 0 rfl rfl)
theorem dX1_aWeek_71 : decode cX1_aWeek 71 = .ok (.istore 5, 2) := dk_54 5 (dk_at dksX1_aWeek_3 1 rfl rfl)
theorem dX1_aWeek_73 : decode cX1_aWeek 73 = .ok (.iload 5, 2) := dk_21 5 (dk_at dksX1_aWeek_3 3 rfl rfl)
theorem dX1_aWeek_75 : decode cX1_aWeek 75 = .ok (.aload_n 1, 1) := dk_43 (dk_at dksX1_aWeek_3 5 rfl rfl)
theorem dX1_aWeek_76 : decode cX1_aWeek 76 = .ok (.getfield 132, 3) := dk_180 0 132 (dk_at dksX1_aWeek_3 6 rfl rfl)
theorem dX1_aWeek_79 : decode cX1_aWeek 79 = .ok (.if_icmp .ge 25, 3) := dk_162 0 25 (dk_at dksX1_aWeek_3 9 rfl rfl)
theorem dX1_aWeek_82 : decode cX1_aWeek 82 = .ok (.aload_n 1, 1) := dk_43 (dk_at dksX1_aWeek_3 12 rfl rfl)
theorem dX1_aWeek_83 : decode cX1_aWeek 83 = .ok (.iload 5, 2) := dk_21 5 (dk_at dksX1_aWeek_3 13 rfl rfl)
theorem dX1_aWeek_85 : decode cX1_aWeek 85 = .ok (.aload_n 0, 1) := dk_42 (dk_at dksX1_aWeek_3 15 rfl rfl)
theorem dX1_aWeek_86 : decode cX1_aWeek 86 = .ok (.getfield 456, 3) := dk_180 1 200 (dk_at dksX1_aWeek_3 16 rfl rfl)
theorem dX1_aWeek_89 : decode cX1_aWeek 89 = .ok (.iload 5, 2) := dk_21 5 (dk_at dksX1_aWeek_3 19 rfl rfl)
theorem dX1_aWeek_91 : decode cX1_aWeek 91 = .ok (.invokestatic 128, 3) := dk_184 0 128 (dk_at dksX1_aWeek_3 21 rfl rfl)
theorem dX1_aWeek_94 : decode cX1_aWeek 94 = .ok (.iload_n 3, 1) := dk_29 (dk_at dksX1_aWeek_4 0 rfl rfl)
theorem dX1_aWeek_95 : decode cX1_aWeek 95 = .ok (.invokevirtual 466, 3) := dk_182 1 210 (dk_at dksX1_aWeek_4 1 rfl rfl)
theorem dX1_aWeek_98 : decode cX1_aWeek 98 = .ok (.iinc 5 1, 3) := dk_132 5 1 (dk_at dksX1_aWeek_4 4 rfl rfl)
theorem dX1_aWeek_101 : decode cX1_aWeek 101 = .ok (.goto (-28), 3) := dk_167 255 228 (dk_at dksX1_aWeek_4 7 rfl rfl)
theorem dX1_aWeek_104 : decode cX1_aWeek 104 = .ok (.aload_n 1, 1) := dk_43 (dk_at dksX1_aWeek_4 10 rfl rfl)
theorem dX1_aWeek_105 : decode cX1_aWeek 105 = .ok (.invokevirtual 470, 3) := dk_182 1 214 (dk_at dksX1_aWeek_4 11 rfl rfl)
theorem dX1_aWeek_108 : decode cX1_aWeek 108 = .ok (.iload 4, 2) := dk_21 4 (dk_at dksX1_aWeek_4 14 rfl rfl)
theorem dX1_aWeek_110 : decode cX1_aWeek 110 = .ok (.ireturn, 1) := dk_172 (dk_at dksX1_aWeek_4 16 rfl rfl)
abbrev cX1_meets : ByteArray := prog_1_method_31_code
def yX1_meets : MethodName := ⟨RX1, "meets", "(LVisitingHours$World;IZ)I"⟩
def dkwX1_meets_4 : List UInt8 := [180, 1, 200, 4, 21, 5, 120, 128, 181, 1, 200, 132, 4, 1, 132, 5, 1, 167, 255, 152, 21, 4, 172]
abbrev dktX1_meets_4 : List UInt8 := dkwX1_meets_4 ++ []
def dkwX1_meets_3 : List UInt8 := [184, 1, 191, 79, 29, 153, 0, 15, 43, 21, 5, 21, 6, 28, 3, 21, 7, 182, 1, 196, 42, 89]
abbrev dktX1_meets_3 : List UInt8 := dkwX1_meets_3 ++ dktX1_meets_4
def dkwX1_meets_2 : List UInt8 := [182, 1, 187, 54, 7, 43, 180, 0, 145, 21, 5, 17, 3, 231, 43, 180, 0, 145, 21, 5, 46, 21, 7, 96]
abbrev dktX1_meets_2 : List UInt8 := dkwX1_meets_2 ++ dktX1_meets_3
def dkwX1_meets_1 : List UInt8 := [154, 0, 6, 167, 0, 81, 43, 180, 1, 159, 21, 5, 50, 28, 46, 54, 6, 42, 43, 21, 5, 21, 6, 28]
abbrev dktX1_meets_1 : List UInt8 := dkwX1_meets_1 ++ dktX1_meets_2
def dkwX1_meets_0 : List UInt8 := [3, 54, 4, 3, 54, 5, 21, 5, 43, 180, 0, 132, 162, 0, 101, 42, 43, 21, 5, 28, 182, 1, 183]
abbrev dktX1_meets_0 : List UInt8 := dkwX1_meets_0 ++ dktX1_meets_1
theorem dksX1_meets_0 : cX1_meets.data.toList.drop 0 = dktX1_meets_0 := by decide +kernel
theorem dksX1_meets_1 : cX1_meets.data.toList.drop 23 = dktX1_meets_1 := dk_seg dksX1_meets_0 23 rfl rfl
theorem dksX1_meets_2 : cX1_meets.data.toList.drop 47 = dktX1_meets_2 := dk_seg dksX1_meets_1 24 rfl rfl
theorem dksX1_meets_3 : cX1_meets.data.toList.drop 71 = dktX1_meets_3 := dk_seg dksX1_meets_2 24 rfl rfl
theorem dksX1_meets_4 : cX1_meets.data.toList.drop 93 = dktX1_meets_4 := dk_seg dksX1_meets_3 22 rfl rfl
theorem dX1_meets_0 : decode cX1_meets 0 = .ok (.iconst 0, 1) := dk_3 (dk_at dksX1_meets_0 0 rfl rfl)
theorem dX1_meets_1 : decode cX1_meets 1 = .ok (.istore 4, 2) := dk_54 4 (dk_at dksX1_meets_0 1 rfl rfl)
theorem dX1_meets_3 : decode cX1_meets 3 = .ok (.iconst 0, 1) := dk_3 (dk_at dksX1_meets_0 3 rfl rfl)
theorem dX1_meets_4 : decode cX1_meets 4 = .ok (.istore 5, 2) := dk_54 5 (dk_at dksX1_meets_0 4 rfl rfl)
theorem dX1_meets_6 : decode cX1_meets 6 = .ok (.iload 5, 2) := dk_21 5 (dk_at dksX1_meets_0 6 rfl rfl)
theorem dX1_meets_8 : decode cX1_meets 8 = .ok (.aload_n 1, 1) := dk_43 (dk_at dksX1_meets_0 8 rfl rfl)
theorem dX1_meets_9 : decode cX1_meets 9 = .ok (.getfield 132, 3) := dk_180 0 132 (dk_at dksX1_meets_0 9 rfl rfl)
theorem dX1_meets_12 : decode cX1_meets 12 = .ok (.if_icmp .ge 101, 3) := dk_162 0 101 (dk_at dksX1_meets_0 12 rfl rfl)
theorem dX1_meets_15 : decode cX1_meets 15 = .ok (.aload_n 0, 1) := dk_42 (dk_at dksX1_meets_0 15 rfl rfl)
theorem dX1_meets_16 : decode cX1_meets 16 = .ok (.aload_n 1, 1) := dk_43 (dk_at dksX1_meets_0 16 rfl rfl)
theorem dX1_meets_17 : decode cX1_meets 17 = .ok (.iload 5, 2) := dk_21 5 (dk_at dksX1_meets_0 17 rfl rfl)
theorem dX1_meets_19 : decode cX1_meets 19 = .ok (.iload_n 2, 1) := dk_28 (dk_at dksX1_meets_0 19 rfl rfl)
theorem dX1_meets_20 : decode cX1_meets 20 = .ok (.invokevirtual 439, 3) := dk_182 1 183 (dk_at dksX1_meets_0 20 rfl rfl)
theorem dX1_meets_23 : decode cX1_meets 23 = .ok (.ifCond .ne 6, 3) := dk_154 0 6 (dk_at dksX1_meets_1 0 rfl rfl)
theorem dX1_meets_26 : decode cX1_meets 26 = .ok (.goto 81, 3) := dk_167 0 81 (dk_at dksX1_meets_1 3 rfl rfl)
theorem dX1_meets_29 : decode cX1_meets 29 = .ok (.aload_n 1, 1) := dk_43 (dk_at dksX1_meets_1 6 rfl rfl)
theorem dX1_meets_30 : decode cX1_meets 30 = .ok (.getfield 415, 3) := dk_180 1 159 (dk_at dksX1_meets_1 7 rfl rfl)
theorem dX1_meets_33 : decode cX1_meets 33 = .ok (.iload 5, 2) := dk_21 5 (dk_at dksX1_meets_1 10 rfl rfl)
theorem dX1_meets_35 : decode cX1_meets 35 = .ok (.aaload, 1) := dk_50 (dk_at dksX1_meets_1 12 rfl rfl)
theorem dX1_meets_36 : decode cX1_meets 36 = .ok (.iload_n 2, 1) := dk_28 (dk_at dksX1_meets_1 13 rfl rfl)
theorem dX1_meets_37 : decode cX1_meets 37 = .ok (.iaload, 1) := dk_46 (dk_at dksX1_meets_1 14 rfl rfl)
theorem dX1_meets_38 : decode cX1_meets 38 = .ok (.istore 6, 2) := dk_54 6 (dk_at dksX1_meets_1 15 rfl rfl)
theorem dX1_meets_40 : decode cX1_meets 40 = .ok (.aload_n 0, 1) := dk_42 (dk_at dksX1_meets_1 17 rfl rfl)
theorem dX1_meets_41 : decode cX1_meets 41 = .ok (.aload_n 1, 1) := dk_43 (dk_at dksX1_meets_1 18 rfl rfl)
theorem dX1_meets_42 : decode cX1_meets 42 = .ok (.iload 5, 2) := dk_21 5 (dk_at dksX1_meets_1 19 rfl rfl)
theorem dX1_meets_44 : decode cX1_meets 44 = .ok (.iload 6, 2) := dk_21 6 (dk_at dksX1_meets_1 21 rfl rfl)
theorem dX1_meets_46 : decode cX1_meets 46 = .ok (.iload_n 2, 1) := dk_28 (dk_at dksX1_meets_1 23 rfl rfl)
theorem dX1_meets_47 : decode cX1_meets 47 = .ok (.invokevirtual 443, 3) := dk_182 1 187 (dk_at dksX1_meets_2 0 rfl rfl)
theorem dX1_meets_50 : decode cX1_meets 50 = .ok (.istore 7, 2) := dk_54 7 (dk_at dksX1_meets_2 3 rfl rfl)
theorem dX1_meets_52 : decode cX1_meets 52 = .ok (.aload_n 1, 1) := dk_43 (dk_at dksX1_meets_2 5 rfl rfl)
theorem dX1_meets_53 : decode cX1_meets 53 = .ok (.getfield 145, 3) := dk_180 0 145 (dk_at dksX1_meets_2 6 rfl rfl)
theorem dX1_meets_56 : decode cX1_meets 56 = .ok (.iload 5, 2) := dk_21 5 (dk_at dksX1_meets_2 9 rfl rfl)
theorem dX1_meets_58 : decode cX1_meets 58 = .ok (.sipush 999, 3) := dk_17 3 231 (dk_at dksX1_meets_2 11 rfl rfl)
theorem dX1_meets_61 : decode cX1_meets 61 = .ok (.aload_n 1, 1) := dk_43 (dk_at dksX1_meets_2 14 rfl rfl)
theorem dX1_meets_62 : decode cX1_meets 62 = .ok (.getfield 145, 3) := dk_180 0 145 (dk_at dksX1_meets_2 15 rfl rfl)
theorem dX1_meets_65 : decode cX1_meets 65 = .ok (.iload 5, 2) := dk_21 5 (dk_at dksX1_meets_2 18 rfl rfl)
theorem dX1_meets_67 : decode cX1_meets 67 = .ok (.iaload, 1) := dk_46 (dk_at dksX1_meets_2 20 rfl rfl)
theorem dX1_meets_68 : decode cX1_meets 68 = .ok (.iload 7, 2) := dk_21 7 (dk_at dksX1_meets_2 21 rfl rfl)
theorem dX1_meets_70 : decode cX1_meets 70 = .ok (.iadd, 1) := dk_96 (dk_at dksX1_meets_2 23 rfl rfl)
theorem dX1_meets_71 : decode cX1_meets 71 = .ok (.invokestatic 447, 3) := dk_184 1 191 (dk_at dksX1_meets_3 0 rfl rfl)
theorem dX1_meets_74 : decode cX1_meets 74 = .ok (.iastore, 1) := dk_79 (dk_at dksX1_meets_3 3 rfl rfl)
theorem dX1_meets_75 : decode cX1_meets 75 = .ok (.iload_n 3, 1) := dk_29 (dk_at dksX1_meets_3 4 rfl rfl)
theorem dX1_meets_76 : decode cX1_meets 76 = .ok (.ifCond .eq 15, 3) := dk_153 0 15 (dk_at dksX1_meets_3 5 rfl rfl)
theorem dX1_meets_79 : decode cX1_meets 79 = .ok (.aload_n 1, 1) := dk_43 (dk_at dksX1_meets_3 8 rfl rfl)
theorem dX1_meets_80 : decode cX1_meets 80 = .ok (.iload 5, 2) := dk_21 5 (dk_at dksX1_meets_3 9 rfl rfl)
theorem dX1_meets_82 : decode cX1_meets 82 = .ok (.iload 6, 2) := dk_21 6 (dk_at dksX1_meets_3 11 rfl rfl)
theorem dX1_meets_84 : decode cX1_meets 84 = .ok (.iload_n 2, 1) := dk_28 (dk_at dksX1_meets_3 13 rfl rfl)
theorem dX1_meets_85 : decode cX1_meets 85 = .ok (.iconst 0, 1) := dk_3 (dk_at dksX1_meets_3 14 rfl rfl)
theorem dX1_meets_86 : decode cX1_meets 86 = .ok (.iload 7, 2) := dk_21 7 (dk_at dksX1_meets_3 15 rfl rfl)
theorem dX1_meets_88 : decode cX1_meets 88 = .ok (.invokevirtual 452, 3) := dk_182 1 196 (dk_at dksX1_meets_3 17 rfl rfl)
theorem dX1_meets_91 : decode cX1_meets 91 = .ok (.aload_n 0, 1) := dk_42 (dk_at dksX1_meets_3 20 rfl rfl)
theorem dX1_meets_92 : decode cX1_meets 92 = .ok (.dup, 1) := dk_89 (dk_at dksX1_meets_3 21 rfl rfl)
theorem dX1_meets_93 : decode cX1_meets 93 = .ok (.getfield 456, 3) := dk_180 1 200 (dk_at dksX1_meets_4 0 rfl rfl)
theorem dX1_meets_96 : decode cX1_meets 96 = .ok (.iconst 1, 1) := dk_4 (dk_at dksX1_meets_4 3 rfl rfl)
theorem dX1_meets_97 : decode cX1_meets 97 = .ok (.iload 5, 2) := dk_21 5 (dk_at dksX1_meets_4 4 rfl rfl)
theorem dX1_meets_99 : decode cX1_meets 99 = .ok (.ishl, 1) := dk_120 (dk_at dksX1_meets_4 6 rfl rfl)
theorem dX1_meets_100 : decode cX1_meets 100 = .ok (.ior, 1) := dk_128 (dk_at dksX1_meets_4 7 rfl rfl)
theorem dX1_meets_101 : decode cX1_meets 101 = .ok (.putfield 456, 3) := dk_181 1 200 (dk_at dksX1_meets_4 8 rfl rfl)
theorem dX1_meets_104 : decode cX1_meets 104 = .ok (.iinc 4 1, 3) := dk_132 4 1 (dk_at dksX1_meets_4 11 rfl rfl)
theorem dX1_meets_107 : decode cX1_meets 107 = .ok (.iinc 5 1, 3) := dk_132 5 1 (dk_at dksX1_meets_4 14 rfl rfl)
theorem dX1_meets_110 : decode cX1_meets 110 = .ok (.goto (-104), 3) := dk_167 255 152 (dk_at dksX1_meets_4 17 rfl rfl)
theorem dX1_meets_113 : decode cX1_meets 113 = .ok (.iload 4, 2) := dk_21 4 (dk_at dksX1_meets_4 20 rfl rfl)
theorem dX1_meets_115 : decode cX1_meets 115 = .ok (.ireturn, 1) := dk_172 (dk_at dksX1_meets_4 22 rfl rfl)
abbrev cX1_hostBest : ByteArray := prog_1_method_65_code
def yX1_hostBest : MethodName := ⟨RX1, "hostBest", "(I)I"⟩
def dkwX1_hostBest_0 : List UInt8 := [42, 27, 182, 1, 233, 42, 180, 0, 51, 182, 2, 27, 180, 2, 31, 27, 46, 172]
abbrev dktX1_hostBest_0 : List UInt8 := dkwX1_hostBest_0 ++ []
theorem dksX1_hostBest_0 : cX1_hostBest.data.toList.drop 0 = dktX1_hostBest_0 := by decide +kernel
theorem dX1_hostBest_0 : decode cX1_hostBest 0 = .ok (.aload_n 0, 1) := dk_42 (dk_at dksX1_hostBest_0 0 rfl rfl)
theorem dX1_hostBest_1 : decode cX1_hostBest 1 = .ok (.iload_n 1, 1) := dk_27 (dk_at dksX1_hostBest_0 1 rfl rfl)
theorem dX1_hostBest_2 : decode cX1_hostBest 2 = .ok (.invokevirtual 489, 3) := dk_182 1 233 (dk_at dksX1_hostBest_0 2 rfl rfl)
theorem dX1_hostBest_5 : decode cX1_hostBest 5 = .ok (.aload_n 0, 1) := dk_42 (dk_at dksX1_hostBest_0 5 rfl rfl)
theorem dX1_hostBest_6 : decode cX1_hostBest 6 = .ok (.getfield 51, 3) := dk_180 0 51 (dk_at dksX1_hostBest_0 6 rfl rfl)
theorem dX1_hostBest_9 : decode cX1_hostBest 9 = .ok (.invokevirtual 539, 3) := dk_182 2 27 (dk_at dksX1_hostBest_0 9 rfl rfl)
theorem dX1_hostBest_12 : decode cX1_hostBest 12 = .ok (.getfield 543, 3) := dk_180 2 31 (dk_at dksX1_hostBest_0 12 rfl rfl)
theorem dX1_hostBest_15 : decode cX1_hostBest 15 = .ok (.iload_n 1, 1) := dk_27 (dk_at dksX1_hostBest_0 15 rfl rfl)
theorem dX1_hostBest_16 : decode cX1_hostBest 16 = .ok (.iaload, 1) := dk_46 (dk_at dksX1_hostBest_0 16 rfl rfl)
theorem dX1_hostBest_17 : decode cX1_hostBest 17 = .ok (.ireturn, 1) := dk_172 (dk_at dksX1_hostBest_0 17 rfl rfl)
abbrev cX1_guestBest : ByteArray := prog_1_method_66_code
def yX1_guestBest : MethodName := ⟨RX1, "guestBest", "(I)I"⟩
def dkwX1_guestBest_0 : List UInt8 := [42, 27, 182, 1, 233, 42, 180, 0, 51, 182, 2, 34, 180, 2, 31, 27, 46, 172]
abbrev dktX1_guestBest_0 : List UInt8 := dkwX1_guestBest_0 ++ []
theorem dksX1_guestBest_0 : cX1_guestBest.data.toList.drop 0 = dktX1_guestBest_0 := by decide +kernel
theorem dX1_guestBest_0 : decode cX1_guestBest 0 = .ok (.aload_n 0, 1) := dk_42 (dk_at dksX1_guestBest_0 0 rfl rfl)
theorem dX1_guestBest_1 : decode cX1_guestBest 1 = .ok (.iload_n 1, 1) := dk_27 (dk_at dksX1_guestBest_0 1 rfl rfl)
theorem dX1_guestBest_2 : decode cX1_guestBest 2 = .ok (.invokevirtual 489, 3) := dk_182 1 233 (dk_at dksX1_guestBest_0 2 rfl rfl)
theorem dX1_guestBest_5 : decode cX1_guestBest 5 = .ok (.aload_n 0, 1) := dk_42 (dk_at dksX1_guestBest_0 5 rfl rfl)
theorem dX1_guestBest_6 : decode cX1_guestBest 6 = .ok (.getfield 51, 3) := dk_180 0 51 (dk_at dksX1_guestBest_0 6 rfl rfl)
theorem dX1_guestBest_9 : decode cX1_guestBest 9 = .ok (.invokevirtual 546, 3) := dk_182 2 34 (dk_at dksX1_guestBest_0 9 rfl rfl)
theorem dX1_guestBest_12 : decode cX1_guestBest 12 = .ok (.getfield 543, 3) := dk_180 2 31 (dk_at dksX1_guestBest_0 12 rfl rfl)
theorem dX1_guestBest_15 : decode cX1_guestBest 15 = .ok (.iload_n 1, 1) := dk_27 (dk_at dksX1_guestBest_0 15 rfl rfl)
theorem dX1_guestBest_16 : decode cX1_guestBest 16 = .ok (.iaload, 1) := dk_46 (dk_at dksX1_guestBest_0 16 rfl rfl)
theorem dX1_guestBest_17 : decode cX1_guestBest 17 = .ok (.ireturn, 1) := dk_172 (dk_at dksX1_guestBest_0 17 rfl rfl)
abbrev cX1_rather : ByteArray := prog_1_method_69_code
def yX1_rather : MethodName := ⟨RX1, "rather", "()I"⟩
def dkwX1_rather_7 : List UInt8 := [132, 2, 1, 167, 255, 193, 42, 180, 0, 51, 182, 2, 59, 172]
abbrev dktX1_rather_7 : List UInt8 := dkwX1_rather_7 ++ []
def dkwX1_rather_6 : List UInt8 := [167, 0, 23, 42, 180, 0, 51, 180, 2, 31, 28, 29, 79, 42, 180, 0, 51, 180, 2, 43, 29, 28, 79]
abbrev dktX1_rather_6 : List UInt8 := dkwX1_rather_6 ++ dktX1_rather_7
def dkwX1_rather_5 : List UInt8 := [17, 0, 255, 126, 62, 42, 28, 29, 182, 2, 56, 154, 0, 5, 2, 172, 29, 17, 0, 255, 160, 0, 6]
abbrev dktX1_rather_5 : List UInt8 := dkwX1_rather_5 ++ dktX1_rather_6
def dkwX1_rather_4 : List UInt8 := [180, 0, 51, 182, 2, 53, 3, 61, 28, 43, 180, 2, 46, 162, 0, 61, 43, 180, 2, 49, 28, 51]
abbrev dktX1_rather_4 : List UInt8 := dkwX1_rather_4 ++ dktX1_rather_5
def dkwX1_rather_3 : List UInt8 := [4, 100, 184, 0, 124, 153, 0, 7, 4, 167, 0, 4, 3, 184, 1, 242, 132, 2, 1, 167, 255, 199, 42]
abbrev dktX1_rather_3 : List UInt8 := dkwX1_rather_3 ++ dktX1_rather_4
def dkwX1_rather_2 : List UInt8 := [17, 0, 255, 126, 17, 0, 255, 159, 0, 25, 43, 180, 2, 49, 28, 51, 3, 42, 180, 0, 10, 180, 0, 168]
abbrev dktX1_rather_2 : List UInt8 := dkwX1_rather_2 ++ dktX1_rather_3
def dkwX1_rather_1 : List UInt8 := [167, 0, 4, 3, 184, 1, 242, 3, 61, 28, 43, 180, 2, 46, 162, 0, 55, 43, 180, 2, 49, 28, 51]
abbrev dktX1_rather_1 : List UInt8 := dkwX1_rather_1 ++ dktX1_rather_2
def dkwX1_rather_0 : List UInt8 := [42, 180, 0, 25, 76, 43, 182, 1, 0, 43, 180, 2, 46, 42, 180, 0, 10, 180, 0, 132, 160, 0, 7, 4]
abbrev dktX1_rather_0 : List UInt8 := dkwX1_rather_0 ++ dktX1_rather_1
theorem dksX1_rather_0 : cX1_rather.data.toList.drop 0 = dktX1_rather_0 := by decide +kernel
theorem dksX1_rather_1 : cX1_rather.data.toList.drop 24 = dktX1_rather_1 := dk_seg dksX1_rather_0 24 rfl rfl
theorem dksX1_rather_2 : cX1_rather.data.toList.drop 47 = dktX1_rather_2 := dk_seg dksX1_rather_1 23 rfl rfl
theorem dksX1_rather_3 : cX1_rather.data.toList.drop 71 = dktX1_rather_3 := dk_seg dksX1_rather_2 24 rfl rfl
theorem dksX1_rather_4 : cX1_rather.data.toList.drop 94 = dktX1_rather_4 := dk_seg dksX1_rather_3 23 rfl rfl
theorem dksX1_rather_5 : cX1_rather.data.toList.drop 116 = dktX1_rather_5 := dk_seg dksX1_rather_4 22 rfl rfl
theorem dksX1_rather_6 : cX1_rather.data.toList.drop 139 = dktX1_rather_6 := dk_seg dksX1_rather_5 23 rfl rfl
theorem dksX1_rather_7 : cX1_rather.data.toList.drop 162 = dktX1_rather_7 := dk_seg dksX1_rather_6 23 rfl rfl
theorem dX1_rather_0 : decode cX1_rather 0 = .ok (.aload_n 0, 1) := dk_42 (dk_at dksX1_rather_0 0 rfl rfl)
theorem dX1_rather_1 : decode cX1_rather 1 = .ok (.getfield 25, 3) := dk_180 0 25 (dk_at dksX1_rather_0 1 rfl rfl)
theorem dX1_rather_4 : decode cX1_rather 4 = .ok (.astore_n 1, 1) := dk_76 (dk_at dksX1_rather_0 4 rfl rfl)
theorem dX1_rather_5 : decode cX1_rather 5 = .ok (.aload_n 1, 1) := dk_43 (dk_at dksX1_rather_0 5 rfl rfl)
theorem dX1_rather_6 : decode cX1_rather 6 = .ok (.invokevirtual 256, 3) := dk_182 1 0 (dk_at dksX1_rather_0 6 rfl rfl)
theorem dX1_rather_9 : decode cX1_rather 9 = .ok (.aload_n 1, 1) := dk_43 (dk_at dksX1_rather_0 9 rfl rfl)
theorem dX1_rather_10 : decode cX1_rather 10 = .ok (.getfield 558, 3) := dk_180 2 46 (dk_at dksX1_rather_0 10 rfl rfl)
theorem dX1_rather_13 : decode cX1_rather 13 = .ok (.aload_n 0, 1) := dk_42 (dk_at dksX1_rather_0 13 rfl rfl)
theorem dX1_rather_14 : decode cX1_rather 14 = .ok (.getfield 10, 3) := dk_180 0 10 (dk_at dksX1_rather_0 14 rfl rfl)
theorem dX1_rather_17 : decode cX1_rather 17 = .ok (.getfield 132, 3) := dk_180 0 132 (dk_at dksX1_rather_0 17 rfl rfl)
theorem dX1_rather_20 : decode cX1_rather 20 = .ok (.if_icmp .ne 7, 3) := dk_160 0 7 (dk_at dksX1_rather_0 20 rfl rfl)
theorem dX1_rather_23 : decode cX1_rather 23 = .ok (.iconst 1, 1) := dk_4 (dk_at dksX1_rather_0 23 rfl rfl)
theorem dX1_rather_24 : decode cX1_rather 24 = .ok (.goto 4, 3) := dk_167 0 4 (dk_at dksX1_rather_1 0 rfl rfl)
theorem dX1_rather_27 : decode cX1_rather 27 = .ok (.iconst 0, 1) := dk_3 (dk_at dksX1_rather_1 3 rfl rfl)
theorem dX1_rather_28 : decode cX1_rather 28 = .ok (.invokestatic 498, 3) := dk_184 1 242 (dk_at dksX1_rather_1 4 rfl rfl)
theorem dX1_rather_31 : decode cX1_rather 31 = .ok (.iconst 0, 1) := dk_3 (dk_at dksX1_rather_1 7 rfl rfl)
theorem dX1_rather_32 : decode cX1_rather 32 = .ok (.istore_n 2, 1) := dk_61 (dk_at dksX1_rather_1 8 rfl rfl)
theorem dX1_rather_33 : decode cX1_rather 33 = .ok (.iload_n 2, 1) := dk_28 (dk_at dksX1_rather_1 9 rfl rfl)
theorem dX1_rather_34 : decode cX1_rather 34 = .ok (.aload_n 1, 1) := dk_43 (dk_at dksX1_rather_1 10 rfl rfl)
theorem dX1_rather_35 : decode cX1_rather 35 = .ok (.getfield 558, 3) := dk_180 2 46 (dk_at dksX1_rather_1 11 rfl rfl)
theorem dX1_rather_38 : decode cX1_rather 38 = .ok (.if_icmp .ge 55, 3) := dk_162 0 55 (dk_at dksX1_rather_1 14 rfl rfl)
theorem dX1_rather_41 : decode cX1_rather 41 = .ok (.aload_n 1, 1) := dk_43 (dk_at dksX1_rather_1 17 rfl rfl)
theorem dX1_rather_42 : decode cX1_rather 42 = .ok (.getfield 561, 3) := dk_180 2 49 (dk_at dksX1_rather_1 18 rfl rfl)
theorem dX1_rather_45 : decode cX1_rather 45 = .ok (.iload_n 2, 1) := dk_28 (dk_at dksX1_rather_1 21 rfl rfl)
theorem dX1_rather_46 : decode cX1_rather 46 = .ok (.baload, 1) := dk_51 (dk_at dksX1_rather_1 22 rfl rfl)
theorem dX1_rather_47 : decode cX1_rather 47 = .ok (.sipush 255, 3) := dk_17 0 255 (dk_at dksX1_rather_2 0 rfl rfl)
theorem dX1_rather_50 : decode cX1_rather 50 = .ok (.iand, 1) := dk_126 (dk_at dksX1_rather_2 3 rfl rfl)
theorem dX1_rather_51 : decode cX1_rather 51 = .ok (.sipush 255, 3) := dk_17 0 255 (dk_at dksX1_rather_2 4 rfl rfl)
theorem dX1_rather_54 : decode cX1_rather 54 = .ok (.if_icmp .eq 25, 3) := dk_159 0 25 (dk_at dksX1_rather_2 7 rfl rfl)
theorem dX1_rather_57 : decode cX1_rather 57 = .ok (.aload_n 1, 1) := dk_43 (dk_at dksX1_rather_2 10 rfl rfl)
theorem dX1_rather_58 : decode cX1_rather 58 = .ok (.getfield 561, 3) := dk_180 2 49 (dk_at dksX1_rather_2 11 rfl rfl)
theorem dX1_rather_61 : decode cX1_rather 61 = .ok (.iload_n 2, 1) := dk_28 (dk_at dksX1_rather_2 14 rfl rfl)
theorem dX1_rather_62 : decode cX1_rather 62 = .ok (.baload, 1) := dk_51 (dk_at dksX1_rather_2 15 rfl rfl)
theorem dX1_rather_63 : decode cX1_rather 63 = .ok (.iconst 0, 1) := dk_3 (dk_at dksX1_rather_2 16 rfl rfl)
theorem dX1_rather_64 : decode cX1_rather 64 = .ok (.aload_n 0, 1) := dk_42 (dk_at dksX1_rather_2 17 rfl rfl)
theorem dX1_rather_65 : decode cX1_rather 65 = .ok (.getfield 10, 3) := dk_180 0 10 (dk_at dksX1_rather_2 18 rfl rfl)
theorem dX1_rather_68 : decode cX1_rather 68 = .ok (.getfield 168, 3) := dk_180 0 168 (dk_at dksX1_rather_2 21 rfl rfl)
theorem dX1_rather_71 : decode cX1_rather 71 = .ok (.iconst 1, 1) := dk_4 (dk_at dksX1_rather_3 0 rfl rfl)
theorem dX1_rather_72 : decode cX1_rather 72 = .ok (.isub, 1) := dk_100 (dk_at dksX1_rather_3 1 rfl rfl)
theorem dX1_rather_73 : decode cX1_rather 73 = .ok (.invokestatic 124, 3) := dk_184 0 124 (dk_at dksX1_rather_3 2 rfl rfl)
theorem dX1_rather_76 : decode cX1_rather 76 = .ok (.ifCond .eq 7, 3) := dk_153 0 7 (dk_at dksX1_rather_3 5 rfl rfl)
theorem dX1_rather_79 : decode cX1_rather 79 = .ok (.iconst 1, 1) := dk_4 (dk_at dksX1_rather_3 8 rfl rfl)
theorem dX1_rather_80 : decode cX1_rather 80 = .ok (.goto 4, 3) := dk_167 0 4 (dk_at dksX1_rather_3 9 rfl rfl)
theorem dX1_rather_83 : decode cX1_rather 83 = .ok (.iconst 0, 1) := dk_3 (dk_at dksX1_rather_3 12 rfl rfl)
theorem dX1_rather_84 : decode cX1_rather 84 = .ok (.invokestatic 498, 3) := dk_184 1 242 (dk_at dksX1_rather_3 13 rfl rfl)
theorem dX1_rather_87 : decode cX1_rather 87 = .ok (.iinc 2 1, 3) := dk_132 2 1 (dk_at dksX1_rather_3 16 rfl rfl)
theorem dX1_rather_90 : decode cX1_rather 90 = .ok (.goto (-57), 3) := dk_167 255 199 (dk_at dksX1_rather_3 19 rfl rfl)
theorem dX1_rather_93 : decode cX1_rather 93 = .ok (.aload_n 0, 1) := dk_42 (dk_at dksX1_rather_3 22 rfl rfl)
theorem dX1_rather_94 : decode cX1_rather 94 = .ok (.getfield 51, 3) := dk_180 0 51 (dk_at dksX1_rather_4 0 rfl rfl)
theorem dX1_rather_97 : decode cX1_rather 97 = .ok (.invokevirtual 565, 3) := dk_182 2 53 (dk_at dksX1_rather_4 3 rfl rfl)
theorem dX1_rather_100 : decode cX1_rather 100 = .ok (.iconst 0, 1) := dk_3 (dk_at dksX1_rather_4 6 rfl rfl)
theorem dX1_rather_101 : decode cX1_rather 101 = .ok (.istore_n 2, 1) := dk_61 (dk_at dksX1_rather_4 7 rfl rfl)
theorem dX1_rather_102 : decode cX1_rather 102 = .ok (.iload_n 2, 1) := dk_28 (dk_at dksX1_rather_4 8 rfl rfl)
theorem dX1_rather_103 : decode cX1_rather 103 = .ok (.aload_n 1, 1) := dk_43 (dk_at dksX1_rather_4 9 rfl rfl)
theorem dX1_rather_104 : decode cX1_rather 104 = .ok (.getfield 558, 3) := dk_180 2 46 (dk_at dksX1_rather_4 10 rfl rfl)
theorem dX1_rather_107 : decode cX1_rather 107 = .ok (.if_icmp .ge 61, 3) := dk_162 0 61 (dk_at dksX1_rather_4 13 rfl rfl)
theorem dX1_rather_110 : decode cX1_rather 110 = .ok (.aload_n 1, 1) := dk_43 (dk_at dksX1_rather_4 16 rfl rfl)
theorem dX1_rather_111 : decode cX1_rather 111 = .ok (.getfield 561, 3) := dk_180 2 49 (dk_at dksX1_rather_4 17 rfl rfl)
theorem dX1_rather_114 : decode cX1_rather 114 = .ok (.iload_n 2, 1) := dk_28 (dk_at dksX1_rather_4 20 rfl rfl)
theorem dX1_rather_115 : decode cX1_rather 115 = .ok (.baload, 1) := dk_51 (dk_at dksX1_rather_4 21 rfl rfl)
theorem dX1_rather_116 : decode cX1_rather 116 = .ok (.sipush 255, 3) := dk_17 0 255 (dk_at dksX1_rather_5 0 rfl rfl)
theorem dX1_rather_119 : decode cX1_rather 119 = .ok (.iand, 1) := dk_126 (dk_at dksX1_rather_5 3 rfl rfl)
theorem dX1_rather_120 : decode cX1_rather 120 = .ok (.istore_n 3, 1) := dk_62 (dk_at dksX1_rather_5 4 rfl rfl)
theorem dX1_rather_121 : decode cX1_rather 121 = .ok (.aload_n 0, 1) := dk_42 (dk_at dksX1_rather_5 5 rfl rfl)
theorem dX1_rather_122 : decode cX1_rather 122 = .ok (.iload_n 2, 1) := dk_28 (dk_at dksX1_rather_5 6 rfl rfl)
theorem dX1_rather_123 : decode cX1_rather 123 = .ok (.iload_n 3, 1) := dk_29 (dk_at dksX1_rather_5 7 rfl rfl)
theorem dX1_rather_124 : decode cX1_rather 124 = .ok (.invokevirtual 568, 3) := dk_182 2 56 (dk_at dksX1_rather_5 8 rfl rfl)
theorem dX1_rather_127 : decode cX1_rather 127 = .ok (.ifCond .ne 5, 3) := dk_154 0 5 (dk_at dksX1_rather_5 11 rfl rfl)
theorem dX1_rather_130 : decode cX1_rather 130 = .ok (.iconst (-1), 1) := dk_2 (dk_at dksX1_rather_5 14 rfl rfl)
theorem dX1_rather_131 : decode cX1_rather 131 = .ok (.ireturn, 1) := dk_172 (dk_at dksX1_rather_5 15 rfl rfl)
theorem dX1_rather_132 : decode cX1_rather 132 = .ok (.iload_n 3, 1) := dk_29 (dk_at dksX1_rather_5 16 rfl rfl)
theorem dX1_rather_133 : decode cX1_rather 133 = .ok (.sipush 255, 3) := dk_17 0 255 (dk_at dksX1_rather_5 17 rfl rfl)
theorem dX1_rather_136 : decode cX1_rather 136 = .ok (.if_icmp .ne 6, 3) := dk_160 0 6 (dk_at dksX1_rather_5 20 rfl rfl)
theorem dX1_rather_139 : decode cX1_rather 139 = .ok (.goto 23, 3) := dk_167 0 23 (dk_at dksX1_rather_6 0 rfl rfl)
theorem dX1_rather_142 : decode cX1_rather 142 = .ok (.aload_n 0, 1) := dk_42 (dk_at dksX1_rather_6 3 rfl rfl)
theorem dX1_rather_143 : decode cX1_rather 143 = .ok (.getfield 51, 3) := dk_180 0 51 (dk_at dksX1_rather_6 4 rfl rfl)
theorem dX1_rather_146 : decode cX1_rather 146 = .ok (.getfield 543, 3) := dk_180 2 31 (dk_at dksX1_rather_6 7 rfl rfl)
theorem dX1_rather_149 : decode cX1_rather 149 = .ok (.iload_n 2, 1) := dk_28 (dk_at dksX1_rather_6 10 rfl rfl)
theorem dX1_rather_150 : decode cX1_rather 150 = .ok (.iload_n 3, 1) := dk_29 (dk_at dksX1_rather_6 11 rfl rfl)
theorem dX1_rather_151 : decode cX1_rather 151 = .ok (.iastore, 1) := dk_79 (dk_at dksX1_rather_6 12 rfl rfl)
theorem dX1_rather_152 : decode cX1_rather 152 = .ok (.aload_n 0, 1) := dk_42 (dk_at dksX1_rather_6 13 rfl rfl)
theorem dX1_rather_153 : decode cX1_rather 153 = .ok (.getfield 51, 3) := dk_180 0 51 (dk_at dksX1_rather_6 14 rfl rfl)
theorem dX1_rather_156 : decode cX1_rather 156 = .ok (.getfield 555, 3) := dk_180 2 43 (dk_at dksX1_rather_6 17 rfl rfl)
theorem dX1_rather_159 : decode cX1_rather 159 = .ok (.iload_n 3, 1) := dk_29 (dk_at dksX1_rather_6 20 rfl rfl)
theorem dX1_rather_160 : decode cX1_rather 160 = .ok (.iload_n 2, 1) := dk_28 (dk_at dksX1_rather_6 21 rfl rfl)
theorem dX1_rather_161 : decode cX1_rather 161 = .ok (.iastore, 1) := dk_79 (dk_at dksX1_rather_6 22 rfl rfl)
theorem dX1_rather_162 : decode cX1_rather 162 = .ok (.iinc 2 1, 3) := dk_132 2 1 (dk_at dksX1_rather_7 0 rfl rfl)
theorem dX1_rather_165 : decode cX1_rather 165 = .ok (.goto (-63), 3) := dk_167 255 193 (dk_at dksX1_rather_7 3 rfl rfl)
theorem dX1_rather_168 : decode cX1_rather 168 = .ok (.aload_n 0, 1) := dk_42 (dk_at dksX1_rather_7 6 rfl rfl)
theorem dX1_rather_169 : decode cX1_rather 169 = .ok (.getfield 51, 3) := dk_180 0 51 (dk_at dksX1_rather_7 7 rfl rfl)
theorem dX1_rather_172 : decode cX1_rather 172 = .ok (.invokevirtual 571, 3) := dk_182 2 59 (dk_at dksX1_rather_7 10 rfl rfl)
theorem dX1_rather_175 : decode cX1_rather 175 = .ok (.ireturn, 1) := dk_172 (dk_at dksX1_rather_7 13 rfl rfl)
abbrev cX1_isTold : ByteArray := prog_1_method_68_code
def yX1_isTold : MethodName := ⟨RX1, "isTold", "(II)Z"⟩
def dkwX1_isTold_1 : List UInt8 := [180, 2, 43, 28, 46, 2, 160, 0, 7, 4, 167, 0, 4, 3, 172]
abbrev dktX1_isTold_1 : List UInt8 := dkwX1_isTold_1 ++ []
def dkwX1_isTold_0 : List UInt8 := [28, 17, 0, 255, 159, 0, 28, 42, 180, 0, 10, 27, 28, 182, 2, 40, 153, 0, 20, 42, 180, 0, 51]
abbrev dktX1_isTold_0 : List UInt8 := dkwX1_isTold_0 ++ dktX1_isTold_1
theorem dksX1_isTold_0 : cX1_isTold.data.toList.drop 0 = dktX1_isTold_0 := by decide +kernel
theorem dksX1_isTold_1 : cX1_isTold.data.toList.drop 23 = dktX1_isTold_1 := dk_seg dksX1_isTold_0 23 rfl rfl
theorem dX1_isTold_0 : decode cX1_isTold 0 = .ok (.iload_n 2, 1) := dk_28 (dk_at dksX1_isTold_0 0 rfl rfl)
theorem dX1_isTold_1 : decode cX1_isTold 1 = .ok (.sipush 255, 3) := dk_17 0 255 (dk_at dksX1_isTold_0 1 rfl rfl)
theorem dX1_isTold_4 : decode cX1_isTold 4 = .ok (.if_icmp .eq 28, 3) := dk_159 0 28 (dk_at dksX1_isTold_0 4 rfl rfl)
theorem dX1_isTold_7 : decode cX1_isTold 7 = .ok (.aload_n 0, 1) := dk_42 (dk_at dksX1_isTold_0 7 rfl rfl)
theorem dX1_isTold_8 : decode cX1_isTold 8 = .ok (.getfield 10, 3) := dk_180 0 10 (dk_at dksX1_isTold_0 8 rfl rfl)
theorem dX1_isTold_11 : decode cX1_isTold 11 = .ok (.iload_n 1, 1) := dk_27 (dk_at dksX1_isTold_0 11 rfl rfl)
theorem dX1_isTold_12 : decode cX1_isTold 12 = .ok (.iload_n 2, 1) := dk_28 (dk_at dksX1_isTold_0 12 rfl rfl)
theorem dX1_isTold_13 : decode cX1_isTold 13 = .ok (.invokevirtual 552, 3) := dk_182 2 40 (dk_at dksX1_isTold_0 13 rfl rfl)
theorem dX1_isTold_16 : decode cX1_isTold 16 = .ok (.ifCond .eq 20, 3) := dk_153 0 20 (dk_at dksX1_isTold_0 16 rfl rfl)
theorem dX1_isTold_19 : decode cX1_isTold 19 = .ok (.aload_n 0, 1) := dk_42 (dk_at dksX1_isTold_0 19 rfl rfl)
theorem dX1_isTold_20 : decode cX1_isTold 20 = .ok (.getfield 51, 3) := dk_180 0 51 (dk_at dksX1_isTold_0 20 rfl rfl)
theorem dX1_isTold_23 : decode cX1_isTold 23 = .ok (.getfield 555, 3) := dk_180 2 43 (dk_at dksX1_isTold_1 0 rfl rfl)
theorem dX1_isTold_26 : decode cX1_isTold 26 = .ok (.iload_n 2, 1) := dk_28 (dk_at dksX1_isTold_1 3 rfl rfl)
theorem dX1_isTold_27 : decode cX1_isTold 27 = .ok (.iaload, 1) := dk_46 (dk_at dksX1_isTold_1 4 rfl rfl)
theorem dX1_isTold_28 : decode cX1_isTold 28 = .ok (.iconst (-1), 1) := dk_2 (dk_at dksX1_isTold_1 5 rfl rfl)
theorem dX1_isTold_29 : decode cX1_isTold 29 = .ok (.if_icmp .ne 7, 3) := dk_160 0 7 (dk_at dksX1_isTold_1 6 rfl rfl)
theorem dX1_isTold_32 : decode cX1_isTold 32 = .ok (.iconst 1, 1) := dk_4 (dk_at dksX1_isTold_1 9 rfl rfl)
theorem dX1_isTold_33 : decode cX1_isTold 33 = .ok (.goto 4, 3) := dk_167 0 4 (dk_at dksX1_isTold_1 10 rfl rfl)
theorem dX1_isTold_36 : decode cX1_isTold 36 = .ok (.iconst 0, 1) := dk_3 (dk_at dksX1_isTold_1 13 rfl rfl)
theorem dX1_isTold_37 : decode cX1_isTold 37 = .ok (.ireturn, 1) := dk_172 (dk_at dksX1_isTold_1 14 rfl rfl)
abbrev cX1_row : ByteArray := prog_1_method_73_code
def yX1_row : MethodName := ⟨RX1, "row", "(IIZ)I"⟩
def dkwX1_row_4 : List UInt8 := [167, 0, 8, 21, 4, 184, 2, 73, 172]
abbrev dktX1_row_4 : List UInt8 := dkwX1_row_4 ++ []
def dkwX1_row_3 : List UInt8 := [184, 2, 73, 164, 0, 7, 21, 5, 54, 4, 132, 5, 1, 167, 255, 186, 29, 153, 0, 8, 21, 4]
abbrev dktX1_row_3 : List UInt8 := dkwX1_row_3 ++ dktX1_row_4
def dkwX1_row_2 : List UInt8 := [154, 0, 33, 42, 180, 0, 55, 21, 5, 46, 19, 2, 65, 162, 0, 20, 21, 5, 184, 2, 73, 21, 4]
abbrev dktX1_row_2 : List UInt8 := dkwX1_row_2 ++ dktX1_row_3
def dkwX1_row_1 : List UInt8 := [162, 0, 62, 42, 180, 0, 55, 21, 5, 42, 27, 21, 5, 182, 2, 70, 79, 21, 5, 28, 2, 130, 126]
abbrev dktX1_row_1 : List UInt8 := dkwX1_row_1 ++ dktX1_row_2
def dkwX1_row_0 : List UInt8 := [42, 27, 182, 1, 233, 3, 54, 4, 3, 54, 5, 21, 5, 4, 42, 180, 0, 10, 180, 0, 168, 120]
abbrev dktX1_row_0 : List UInt8 := dkwX1_row_0 ++ dktX1_row_1
theorem dksX1_row_0 : cX1_row.data.toList.drop 0 = dktX1_row_0 := by decide +kernel
theorem dksX1_row_1 : cX1_row.data.toList.drop 22 = dktX1_row_1 := dk_seg dksX1_row_0 22 rfl rfl
theorem dksX1_row_2 : cX1_row.data.toList.drop 45 = dktX1_row_2 := dk_seg dksX1_row_1 23 rfl rfl
theorem dksX1_row_3 : cX1_row.data.toList.drop 68 = dktX1_row_3 := dk_seg dksX1_row_2 23 rfl rfl
theorem dksX1_row_4 : cX1_row.data.toList.drop 90 = dktX1_row_4 := dk_seg dksX1_row_3 22 rfl rfl
theorem dX1_row_0 : decode cX1_row 0 = .ok (.aload_n 0, 1) := dk_42 (dk_at dksX1_row_0 0 rfl rfl)
theorem dX1_row_1 : decode cX1_row 1 = .ok (.iload_n 1, 1) := dk_27 (dk_at dksX1_row_0 1 rfl rfl)
theorem dX1_row_2 : decode cX1_row 2 = .ok (.invokevirtual 489, 3) := dk_182 1 233 (dk_at dksX1_row_0 2 rfl rfl)
theorem dX1_row_5 : decode cX1_row 5 = .ok (.iconst 0, 1) := dk_3 (dk_at dksX1_row_0 5 rfl rfl)
theorem dX1_row_6 : decode cX1_row 6 = .ok (.istore 4, 2) := dk_54 4 (dk_at dksX1_row_0 6 rfl rfl)
theorem dX1_row_8 : decode cX1_row 8 = .ok (.iconst 0, 1) := dk_3 (dk_at dksX1_row_0 8 rfl rfl)
theorem dX1_row_9 : decode cX1_row 9 = .ok (.istore 5, 2) := dk_54 5 (dk_at dksX1_row_0 9 rfl rfl)
theorem dX1_row_11 : decode cX1_row 11 = .ok (.iload 5, 2) := dk_21 5 (dk_at dksX1_row_0 11 rfl rfl)
theorem dX1_row_13 : decode cX1_row 13 = .ok (.iconst 1, 1) := dk_4 (dk_at dksX1_row_0 13 rfl rfl)
theorem dX1_row_14 : decode cX1_row 14 = .ok (.aload_n 0, 1) := dk_42 (dk_at dksX1_row_0 14 rfl rfl)
theorem dX1_row_15 : decode cX1_row 15 = .ok (.getfield 10, 3) := dk_180 0 10 (dk_at dksX1_row_0 15 rfl rfl)
theorem dX1_row_18 : decode cX1_row 18 = .ok (.getfield 168, 3) := dk_180 0 168 (dk_at dksX1_row_0 18 rfl rfl)
theorem dX1_row_21 : decode cX1_row 21 = .ok (.ishl, 1) := dk_120 (dk_at dksX1_row_0 21 rfl rfl)
theorem dX1_row_22 : decode cX1_row 22 = .ok (.if_icmp .ge 62, 3) := dk_162 0 62 (dk_at dksX1_row_1 0 rfl rfl)
theorem dX1_row_25 : decode cX1_row 25 = .ok (.aload_n 0, 1) := dk_42 (dk_at dksX1_row_1 3 rfl rfl)
theorem dX1_row_26 : decode cX1_row 26 = .ok (.getfield 55, 3) := dk_180 0 55 (dk_at dksX1_row_1 4 rfl rfl)
theorem dX1_row_29 : decode cX1_row 29 = .ok (.iload 5, 2) := dk_21 5 (dk_at dksX1_row_1 7 rfl rfl)
theorem dX1_row_31 : decode cX1_row 31 = .ok (.aload_n 0, 1) := dk_42 (dk_at dksX1_row_1 9 rfl rfl)
theorem dX1_row_32 : decode cX1_row 32 = .ok (.iload_n 1, 1) := dk_27 (dk_at dksX1_row_1 10 rfl rfl)
theorem dX1_row_33 : decode cX1_row 33 = .ok (.iload 5, 2) := dk_21 5 (dk_at dksX1_row_1 11 rfl rfl)
theorem dX1_row_35 : decode cX1_row 35 = .ok (.invokevirtual 582, 3) := dk_182 2 70 (dk_at dksX1_row_1 13 rfl rfl)
theorem dX1_row_38 : decode cX1_row 38 = .ok (.iastore, 1) := dk_79 (dk_at dksX1_row_1 16 rfl rfl)
theorem dX1_row_39 : decode cX1_row 39 = .ok (.iload 5, 2) := dk_21 5 (dk_at dksX1_row_1 17 rfl rfl)
theorem dX1_row_41 : decode cX1_row 41 = .ok (.iload_n 2, 1) := dk_28 (dk_at dksX1_row_1 19 rfl rfl)
theorem dX1_row_42 : decode cX1_row 42 = .ok (.iconst (-1), 1) := dk_2 (dk_at dksX1_row_1 20 rfl rfl)
theorem dX1_row_43 : decode cX1_row 43 = .ok (.ixor, 1) := dk_130 (dk_at dksX1_row_1 21 rfl rfl)
theorem dX1_row_44 : decode cX1_row 44 = .ok (.iand, 1) := dk_126 (dk_at dksX1_row_1 22 rfl rfl)
theorem dX1_row_45 : decode cX1_row 45 = .ok (.ifCond .ne 33, 3) := dk_154 0 33 (dk_at dksX1_row_2 0 rfl rfl)
theorem dX1_row_48 : decode cX1_row 48 = .ok (.aload_n 0, 1) := dk_42 (dk_at dksX1_row_2 3 rfl rfl)
theorem dX1_row_49 : decode cX1_row 49 = .ok (.getfield 55, 3) := dk_180 0 55 (dk_at dksX1_row_2 4 rfl rfl)
theorem dX1_row_52 : decode cX1_row 52 = .ok (.iload 5, 2) := dk_21 5 (dk_at dksX1_row_2 7 rfl rfl)
theorem dX1_row_54 : decode cX1_row 54 = .ok (.iaload, 1) := dk_46 (dk_at dksX1_row_2 9 rfl rfl)
theorem dX1_row_55 : decode cX1_row 55 = .ok (.ldc_w 577, 3) := dk_19 2 65 (dk_at dksX1_row_2 10 rfl rfl)
theorem dX1_row_58 : decode cX1_row 58 = .ok (.if_icmp .ge 20, 3) := dk_162 0 20 (dk_at dksX1_row_2 13 rfl rfl)
theorem dX1_row_61 : decode cX1_row 61 = .ok (.iload 5, 2) := dk_21 5 (dk_at dksX1_row_2 16 rfl rfl)
theorem dX1_row_63 : decode cX1_row 63 = .ok (.invokestatic 585, 3) := dk_184 2 73 (dk_at dksX1_row_2 18 rfl rfl)
theorem dX1_row_66 : decode cX1_row 66 = .ok (.iload 4, 2) := dk_21 4 (dk_at dksX1_row_2 21 rfl rfl)
theorem dX1_row_68 : decode cX1_row 68 = .ok (.invokestatic 585, 3) := dk_184 2 73 (dk_at dksX1_row_3 0 rfl rfl)
theorem dX1_row_71 : decode cX1_row 71 = .ok (.if_icmp .le 7, 3) := dk_164 0 7 (dk_at dksX1_row_3 3 rfl rfl)
theorem dX1_row_74 : decode cX1_row 74 = .ok (.iload 5, 2) := dk_21 5 (dk_at dksX1_row_3 6 rfl rfl)
theorem dX1_row_76 : decode cX1_row 76 = .ok (.istore 4, 2) := dk_54 4 (dk_at dksX1_row_3 8 rfl rfl)
theorem dX1_row_78 : decode cX1_row 78 = .ok (.iinc 5 1, 3) := dk_132 5 1 (dk_at dksX1_row_3 10 rfl rfl)
theorem dX1_row_81 : decode cX1_row 81 = .ok (.goto (-70), 3) := dk_167 255 186 (dk_at dksX1_row_3 13 rfl rfl)
theorem dX1_row_84 : decode cX1_row 84 = .ok (.iload_n 3, 1) := dk_29 (dk_at dksX1_row_3 16 rfl rfl)
theorem dX1_row_85 : decode cX1_row 85 = .ok (.ifCond .eq 8, 3) := dk_153 0 8 (dk_at dksX1_row_3 17 rfl rfl)
theorem dX1_row_88 : decode cX1_row 88 = .ok (.iload 4, 2) := dk_21 4 (dk_at dksX1_row_3 20 rfl rfl)
theorem dX1_row_90 : decode cX1_row 90 = .ok (.goto 8, 3) := dk_167 0 8 (dk_at dksX1_row_4 0 rfl rfl)
theorem dX1_row_93 : decode cX1_row 93 = .ok (.iload 4, 2) := dk_21 4 (dk_at dksX1_row_4 3 rfl rfl)
theorem dX1_row_95 : decode cX1_row 95 = .ok (.invokestatic 585, 3) := dk_184 2 73 (dk_at dksX1_row_4 5 rfl rfl)
theorem dX1_row_98 : decode cX1_row 98 = .ok (.ireturn, 1) := dk_172 (dk_at dksX1_row_4 8 rfl rfl)
abbrev cX1_overOf : ByteArray := prog_1_method_72_code
def yX1_overOf : MethodName := ⟨RX1, "overOf", "(II)I"⟩
def dkwX1_overOf_3 : List UInt8 := [46, 182, 2, 66, 184, 1, 191, 62, 132, 4, 1, 167, 255, 188, 29, 172]
abbrev dktX1_overOf_3 : List UInt8 := dkwX1_overOf_3 ++ []
def dkwX1_overOf_2 : List UInt8 := [46, 19, 2, 65, 162, 0, 28, 29, 42, 27, 21, 4, 42, 180, 0, 55, 28, 4, 21, 4, 120, 2, 130, 126]
abbrev dktX1_overOf_2 : List UInt8 := dkwX1_overOf_2 ++ dktX1_overOf_3
def dkwX1_overOf_1 : List UInt8 := [162, 0, 62, 28, 21, 4, 184, 0, 128, 153, 0, 47, 42, 180, 0, 55, 28, 4, 21, 4, 120, 2, 130, 126]
abbrev dktX1_overOf_1 : List UInt8 := dkwX1_overOf_1 ++ dktX1_overOf_2
def dkwX1_overOf_0 : List UInt8 := [28, 154, 0, 7, 3, 167, 0, 6, 19, 2, 65, 62, 3, 54, 4, 21, 4, 42, 180, 0, 10, 180, 0, 168]
abbrev dktX1_overOf_0 : List UInt8 := dkwX1_overOf_0 ++ dktX1_overOf_1
theorem dksX1_overOf_0 : cX1_overOf.data.toList.drop 0 = dktX1_overOf_0 := by decide +kernel
theorem dksX1_overOf_1 : cX1_overOf.data.toList.drop 24 = dktX1_overOf_1 := dk_seg dksX1_overOf_0 24 rfl rfl
theorem dksX1_overOf_2 : cX1_overOf.data.toList.drop 48 = dktX1_overOf_2 := dk_seg dksX1_overOf_1 24 rfl rfl
theorem dksX1_overOf_3 : cX1_overOf.data.toList.drop 72 = dktX1_overOf_3 := dk_seg dksX1_overOf_2 24 rfl rfl
theorem dX1_overOf_0 : decode cX1_overOf 0 = .ok (.iload_n 2, 1) := dk_28 (dk_at dksX1_overOf_0 0 rfl rfl)
theorem dX1_overOf_1 : decode cX1_overOf 1 = .ok (.ifCond .ne 7, 3) := dk_154 0 7 (dk_at dksX1_overOf_0 1 rfl rfl)
theorem dX1_overOf_4 : decode cX1_overOf 4 = .ok (.iconst 0, 1) := dk_3 (dk_at dksX1_overOf_0 4 rfl rfl)
theorem dX1_overOf_5 : decode cX1_overOf 5 = .ok (.goto 6, 3) := dk_167 0 6 (dk_at dksX1_overOf_0 5 rfl rfl)
theorem dX1_overOf_8 : decode cX1_overOf 8 = .ok (.ldc_w 577, 3) := dk_19 2 65 (dk_at dksX1_overOf_0 8 rfl rfl)
theorem dX1_overOf_11 : decode cX1_overOf 11 = .ok (.istore_n 3, 1) := dk_62 (dk_at dksX1_overOf_0 11 rfl rfl)
theorem dX1_overOf_12 : decode cX1_overOf 12 = .ok (.iconst 0, 1) := dk_3 (dk_at dksX1_overOf_0 12 rfl rfl)
theorem dX1_overOf_13 : decode cX1_overOf 13 = .ok (.istore 4, 2) := dk_54 4 (dk_at dksX1_overOf_0 13 rfl rfl)
theorem dX1_overOf_15 : decode cX1_overOf 15 = .ok (.iload 4, 2) := dk_21 4 (dk_at dksX1_overOf_0 15 rfl rfl)
theorem dX1_overOf_17 : decode cX1_overOf 17 = .ok (.aload_n 0, 1) := dk_42 (dk_at dksX1_overOf_0 17 rfl rfl)
theorem dX1_overOf_18 : decode cX1_overOf 18 = .ok (.getfield 10, 3) := dk_180 0 10 (dk_at dksX1_overOf_0 18 rfl rfl)
theorem dX1_overOf_21 : decode cX1_overOf 21 = .ok (.getfield 168, 3) := dk_180 0 168 (dk_at dksX1_overOf_0 21 rfl rfl)
theorem dX1_overOf_24 : decode cX1_overOf 24 = .ok (.if_icmp .ge 62, 3) := dk_162 0 62 (dk_at dksX1_overOf_1 0 rfl rfl)
theorem dX1_overOf_27 : decode cX1_overOf 27 = .ok (.iload_n 2, 1) := dk_28 (dk_at dksX1_overOf_1 3 rfl rfl)
theorem dX1_overOf_28 : decode cX1_overOf 28 = .ok (.iload 4, 2) := dk_21 4 (dk_at dksX1_overOf_1 4 rfl rfl)
theorem dX1_overOf_30 : decode cX1_overOf 30 = .ok (.invokestatic 128, 3) := dk_184 0 128 (dk_at dksX1_overOf_1 6 rfl rfl)
theorem dX1_overOf_33 : decode cX1_overOf 33 = .ok (.ifCond .eq 47, 3) := dk_153 0 47 (dk_at dksX1_overOf_1 9 rfl rfl)
theorem dX1_overOf_36 : decode cX1_overOf 36 = .ok (.aload_n 0, 1) := dk_42 (dk_at dksX1_overOf_1 12 rfl rfl)
theorem dX1_overOf_37 : decode cX1_overOf 37 = .ok (.getfield 55, 3) := dk_180 0 55 (dk_at dksX1_overOf_1 13 rfl rfl)
theorem dX1_overOf_40 : decode cX1_overOf 40 = .ok (.iload_n 2, 1) := dk_28 (dk_at dksX1_overOf_1 16 rfl rfl)
theorem dX1_overOf_41 : decode cX1_overOf 41 = .ok (.iconst 1, 1) := dk_4 (dk_at dksX1_overOf_1 17 rfl rfl)
theorem dX1_overOf_42 : decode cX1_overOf 42 = .ok (.iload 4, 2) := dk_21 4 (dk_at dksX1_overOf_1 18 rfl rfl)
theorem dX1_overOf_44 : decode cX1_overOf 44 = .ok (.ishl, 1) := dk_120 (dk_at dksX1_overOf_1 20 rfl rfl)
theorem dX1_overOf_45 : decode cX1_overOf 45 = .ok (.iconst (-1), 1) := dk_2 (dk_at dksX1_overOf_1 21 rfl rfl)
theorem dX1_overOf_46 : decode cX1_overOf 46 = .ok (.ixor, 1) := dk_130 (dk_at dksX1_overOf_1 22 rfl rfl)
theorem dX1_overOf_47 : decode cX1_overOf 47 = .ok (.iand, 1) := dk_126 (dk_at dksX1_overOf_1 23 rfl rfl)
theorem dX1_overOf_48 : decode cX1_overOf 48 = .ok (.iaload, 1) := dk_46 (dk_at dksX1_overOf_2 0 rfl rfl)
theorem dX1_overOf_49 : decode cX1_overOf 49 = .ok (.ldc_w 577, 3) := dk_19 2 65 (dk_at dksX1_overOf_2 1 rfl rfl)
theorem dX1_overOf_52 : decode cX1_overOf 52 = .ok (.if_icmp .ge 28, 3) := dk_162 0 28 (dk_at dksX1_overOf_2 4 rfl rfl)
theorem dX1_overOf_55 : decode cX1_overOf 55 = .ok (.iload_n 3, 1) := dk_29 (dk_at dksX1_overOf_2 7 rfl rfl)
theorem dX1_overOf_56 : decode cX1_overOf 56 = .ok (.aload_n 0, 1) := dk_42 (dk_at dksX1_overOf_2 8 rfl rfl)
theorem dX1_overOf_57 : decode cX1_overOf 57 = .ok (.iload_n 1, 1) := dk_27 (dk_at dksX1_overOf_2 9 rfl rfl)
theorem dX1_overOf_58 : decode cX1_overOf 58 = .ok (.iload 4, 2) := dk_21 4 (dk_at dksX1_overOf_2 10 rfl rfl)
theorem dX1_overOf_60 : decode cX1_overOf 60 = .ok (.aload_n 0, 1) := dk_42 (dk_at dksX1_overOf_2 12 rfl rfl)
theorem dX1_overOf_61 : decode cX1_overOf 61 = .ok (.getfield 55, 3) := dk_180 0 55 (dk_at dksX1_overOf_2 13 rfl rfl)
theorem dX1_overOf_64 : decode cX1_overOf 64 = .ok (.iload_n 2, 1) := dk_28 (dk_at dksX1_overOf_2 16 rfl rfl)
theorem dX1_overOf_65 : decode cX1_overOf 65 = .ok (.iconst 1, 1) := dk_4 (dk_at dksX1_overOf_2 17 rfl rfl)
theorem dX1_overOf_66 : decode cX1_overOf 66 = .ok (.iload 4, 2) := dk_21 4 (dk_at dksX1_overOf_2 18 rfl rfl)
theorem dX1_overOf_68 : decode cX1_overOf 68 = .ok (.ishl, 1) := dk_120 (dk_at dksX1_overOf_2 20 rfl rfl)
theorem dX1_overOf_69 : decode cX1_overOf 69 = .ok (.iconst (-1), 1) := dk_2 (dk_at dksX1_overOf_2 21 rfl rfl)
theorem dX1_overOf_70 : decode cX1_overOf 70 = .ok (.ixor, 1) := dk_130 (dk_at dksX1_overOf_2 22 rfl rfl)
theorem dX1_overOf_71 : decode cX1_overOf 71 = .ok (.iand, 1) := dk_126 (dk_at dksX1_overOf_2 23 rfl rfl)
theorem dX1_overOf_72 : decode cX1_overOf 72 = .ok (.iaload, 1) := dk_46 (dk_at dksX1_overOf_3 0 rfl rfl)
theorem dX1_overOf_73 : decode cX1_overOf 73 = .ok (.invokevirtual 578, 3) := dk_182 2 66 (dk_at dksX1_overOf_3 1 rfl rfl)
theorem dX1_overOf_76 : decode cX1_overOf 76 = .ok (.invokestatic 447, 3) := dk_184 1 191 (dk_at dksX1_overOf_3 4 rfl rfl)
theorem dX1_overOf_79 : decode cX1_overOf 79 = .ok (.istore_n 3, 1) := dk_62 (dk_at dksX1_overOf_3 7 rfl rfl)
theorem dX1_overOf_80 : decode cX1_overOf 80 = .ok (.iinc 4 1, 3) := dk_132 4 1 (dk_at dksX1_overOf_3 8 rfl rfl)
theorem dX1_overOf_83 : decode cX1_overOf 83 = .ok (.goto (-68), 3) := dk_167 255 188 (dk_at dksX1_overOf_3 11 rfl rfl)
theorem dX1_overOf_86 : decode cX1_overOf 86 = .ok (.iload_n 3, 1) := dk_29 (dk_at dksX1_overOf_3 14 rfl rfl)
theorem dX1_overOf_87 : decode cX1_overOf 87 = .ok (.ireturn, 1) := dk_172 (dk_at dksX1_overOf_3 15 rfl rfl)
abbrev cX1_overFrom : ByteArray := prog_1_method_71_code
def yX1_overFrom : MethodName := ⟨RX1, "overFrom", "(III)I"⟩
def dkwX1_overFrom_1 : List UInt8 := [180, 0, 10, 180, 0, 171, 28, 46, 96, 172, 132, 4, 1, 167, 255, 222, 19, 2, 65, 172]
abbrev dktX1_overFrom_1 : List UInt8 := dkwX1_overFrom_1 ++ []
def dkwX1_overFrom_0 : List UInt8 := [29, 54, 4, 21, 4, 16, 8, 162, 0, 33, 42, 27, 28, 21, 4, 182, 2, 62, 153, 0, 16, 21, 4, 42]
abbrev dktX1_overFrom_0 : List UInt8 := dkwX1_overFrom_0 ++ dktX1_overFrom_1
theorem dksX1_overFrom_0 : cX1_overFrom.data.toList.drop 0 = dktX1_overFrom_0 := by decide +kernel
theorem dksX1_overFrom_1 : cX1_overFrom.data.toList.drop 24 = dktX1_overFrom_1 := dk_seg dksX1_overFrom_0 24 rfl rfl
theorem dX1_overFrom_0 : decode cX1_overFrom 0 = .ok (.iload_n 3, 1) := dk_29 (dk_at dksX1_overFrom_0 0 rfl rfl)
theorem dX1_overFrom_1 : decode cX1_overFrom 1 = .ok (.istore 4, 2) := dk_54 4 (dk_at dksX1_overFrom_0 1 rfl rfl)
theorem dX1_overFrom_3 : decode cX1_overFrom 3 = .ok (.iload 4, 2) := dk_21 4 (dk_at dksX1_overFrom_0 3 rfl rfl)
theorem dX1_overFrom_5 : decode cX1_overFrom 5 = .ok (.bipush 8, 2) := dk_16 8 (dk_at dksX1_overFrom_0 5 rfl rfl)
theorem dX1_overFrom_7 : decode cX1_overFrom 7 = .ok (.if_icmp .ge 33, 3) := dk_162 0 33 (dk_at dksX1_overFrom_0 7 rfl rfl)
theorem dX1_overFrom_10 : decode cX1_overFrom 10 = .ok (.aload_n 0, 1) := dk_42 (dk_at dksX1_overFrom_0 10 rfl rfl)
theorem dX1_overFrom_11 : decode cX1_overFrom 11 = .ok (.iload_n 1, 1) := dk_27 (dk_at dksX1_overFrom_0 11 rfl rfl)
theorem dX1_overFrom_12 : decode cX1_overFrom 12 = .ok (.iload_n 2, 1) := dk_28 (dk_at dksX1_overFrom_0 12 rfl rfl)
theorem dX1_overFrom_13 : decode cX1_overFrom 13 = .ok (.iload 4, 2) := dk_21 4 (dk_at dksX1_overFrom_0 13 rfl rfl)
theorem dX1_overFrom_15 : decode cX1_overFrom 15 = .ok (.invokevirtual 574, 3) := dk_182 2 62 (dk_at dksX1_overFrom_0 15 rfl rfl)
theorem dX1_overFrom_18 : decode cX1_overFrom 18 = .ok (.ifCond .eq 16, 3) := dk_153 0 16 (dk_at dksX1_overFrom_0 18 rfl rfl)
theorem dX1_overFrom_21 : decode cX1_overFrom 21 = .ok (.iload 4, 2) := dk_21 4 (dk_at dksX1_overFrom_0 21 rfl rfl)
theorem dX1_overFrom_23 : decode cX1_overFrom 23 = .ok (.aload_n 0, 1) := dk_42 (dk_at dksX1_overFrom_0 23 rfl rfl)
theorem dX1_overFrom_24 : decode cX1_overFrom 24 = .ok (.getfield 10, 3) := dk_180 0 10 (dk_at dksX1_overFrom_1 0 rfl rfl)
theorem dX1_overFrom_27 : decode cX1_overFrom 27 = .ok (.getfield 171, 3) := dk_180 0 171 (dk_at dksX1_overFrom_1 3 rfl rfl)
theorem dX1_overFrom_30 : decode cX1_overFrom 30 = .ok (.iload_n 2, 1) := dk_28 (dk_at dksX1_overFrom_1 6 rfl rfl)
theorem dX1_overFrom_31 : decode cX1_overFrom 31 = .ok (.iaload, 1) := dk_46 (dk_at dksX1_overFrom_1 7 rfl rfl)
theorem dX1_overFrom_32 : decode cX1_overFrom 32 = .ok (.iadd, 1) := dk_96 (dk_at dksX1_overFrom_1 8 rfl rfl)
theorem dX1_overFrom_33 : decode cX1_overFrom 33 = .ok (.ireturn, 1) := dk_172 (dk_at dksX1_overFrom_1 9 rfl rfl)
theorem dX1_overFrom_34 : decode cX1_overFrom 34 = .ok (.iinc 4 1, 3) := dk_132 4 1 (dk_at dksX1_overFrom_1 10 rfl rfl)
theorem dX1_overFrom_37 : decode cX1_overFrom 37 = .ok (.goto (-34), 3) := dk_167 255 222 (dk_at dksX1_overFrom_1 13 rfl rfl)
theorem dX1_overFrom_40 : decode cX1_overFrom 40 = .ok (.ldc_w 577, 3) := dk_19 2 65 (dk_at dksX1_overFrom_1 16 rfl rfl)
theorem dX1_overFrom_43 : decode cX1_overFrom 43 = .ok (.ireturn, 1) := dk_172 (dk_at dksX1_overFrom_1 19 rfl rfl)
abbrev cX1_canStay : ByteArray := prog_1_method_70_code
def yX1_canStay : MethodName := ⟨RX1, "canStay", "(III)Z"⟩
def dkwX1_canStay_3 : List UInt8 := [167, 255, 221, 4, 172]
abbrev dktX1_canStay_3 : List UInt8 := dkwX1_canStay_3 ++ []
def dkwX1_canStay_2 : List UInt8 := [162, 0, 25, 42, 180, 0, 10, 27, 28, 21, 4, 182, 1, 176, 154, 0, 5, 3, 172, 132, 4, 1]
abbrev dktX1_canStay_2 : List UInt8 := dkwX1_canStay_2 ++ dktX1_canStay_3
def dkwX1_canStay_1 : List UInt8 := [16, 8, 164, 0, 5, 3, 172, 29, 54, 4, 21, 4, 29, 42, 180, 0, 10, 180, 0, 171, 28, 46, 96]
abbrev dktX1_canStay_1 : List UInt8 := dkwX1_canStay_1 ++ dktX1_canStay_2
def dkwX1_canStay_0 : List UInt8 := [42, 180, 0, 10, 27, 28, 182, 2, 40, 153, 0, 19, 29, 42, 180, 0, 10, 180, 0, 171, 28, 46, 96]
abbrev dktX1_canStay_0 : List UInt8 := dkwX1_canStay_0 ++ dktX1_canStay_1
theorem dksX1_canStay_0 : cX1_canStay.data.toList.drop 0 = dktX1_canStay_0 := by decide +kernel
theorem dksX1_canStay_1 : cX1_canStay.data.toList.drop 23 = dktX1_canStay_1 := dk_seg dksX1_canStay_0 23 rfl rfl
theorem dksX1_canStay_2 : cX1_canStay.data.toList.drop 46 = dktX1_canStay_2 := dk_seg dksX1_canStay_1 23 rfl rfl
theorem dksX1_canStay_3 : cX1_canStay.data.toList.drop 68 = dktX1_canStay_3 := dk_seg dksX1_canStay_2 22 rfl rfl
theorem dX1_canStay_0 : decode cX1_canStay 0 = .ok (.aload_n 0, 1) := dk_42 (dk_at dksX1_canStay_0 0 rfl rfl)
theorem dX1_canStay_1 : decode cX1_canStay 1 = .ok (.getfield 10, 3) := dk_180 0 10 (dk_at dksX1_canStay_0 1 rfl rfl)
theorem dX1_canStay_4 : decode cX1_canStay 4 = .ok (.iload_n 1, 1) := dk_27 (dk_at dksX1_canStay_0 4 rfl rfl)
theorem dX1_canStay_5 : decode cX1_canStay 5 = .ok (.iload_n 2, 1) := dk_28 (dk_at dksX1_canStay_0 5 rfl rfl)
theorem dX1_canStay_6 : decode cX1_canStay 6 = .ok (.invokevirtual 552, 3) := dk_182 2 40 (dk_at dksX1_canStay_0 6 rfl rfl)
theorem dX1_canStay_9 : decode cX1_canStay 9 = .ok (.ifCond .eq 19, 3) := dk_153 0 19 (dk_at dksX1_canStay_0 9 rfl rfl)
theorem dX1_canStay_12 : decode cX1_canStay 12 = .ok (.iload_n 3, 1) := dk_29 (dk_at dksX1_canStay_0 12 rfl rfl)
theorem dX1_canStay_13 : decode cX1_canStay 13 = .ok (.aload_n 0, 1) := dk_42 (dk_at dksX1_canStay_0 13 rfl rfl)
theorem dX1_canStay_14 : decode cX1_canStay 14 = .ok (.getfield 10, 3) := dk_180 0 10 (dk_at dksX1_canStay_0 14 rfl rfl)
theorem dX1_canStay_17 : decode cX1_canStay 17 = .ok (.getfield 171, 3) := dk_180 0 171 (dk_at dksX1_canStay_0 17 rfl rfl)
theorem dX1_canStay_20 : decode cX1_canStay 20 = .ok (.iload_n 2, 1) := dk_28 (dk_at dksX1_canStay_0 20 rfl rfl)
theorem dX1_canStay_21 : decode cX1_canStay 21 = .ok (.iaload, 1) := dk_46 (dk_at dksX1_canStay_0 21 rfl rfl)
theorem dX1_canStay_22 : decode cX1_canStay 22 = .ok (.iadd, 1) := dk_96 (dk_at dksX1_canStay_0 22 rfl rfl)
theorem dX1_canStay_23 : decode cX1_canStay 23 = .ok (.bipush 8, 2) := dk_16 8 (dk_at dksX1_canStay_1 0 rfl rfl)
theorem dX1_canStay_25 : decode cX1_canStay 25 = .ok (.if_icmp .le 5, 3) := dk_164 0 5 (dk_at dksX1_canStay_1 2 rfl rfl)
theorem dX1_canStay_28 : decode cX1_canStay 28 = .ok (.iconst 0, 1) := dk_3 (dk_at dksX1_canStay_1 5 rfl rfl)
theorem dX1_canStay_29 : decode cX1_canStay 29 = .ok (.ireturn, 1) := dk_172 (dk_at dksX1_canStay_1 6 rfl rfl)
theorem dX1_canStay_30 : decode cX1_canStay 30 = .ok (.iload_n 3, 1) := dk_29 (dk_at dksX1_canStay_1 7 rfl rfl)
theorem dX1_canStay_31 : decode cX1_canStay 31 = .ok (.istore 4, 2) := dk_54 4 (dk_at dksX1_canStay_1 8 rfl rfl)
theorem dX1_canStay_33 : decode cX1_canStay 33 = .ok (.iload 4, 2) := dk_21 4 (dk_at dksX1_canStay_1 10 rfl rfl)
theorem dX1_canStay_35 : decode cX1_canStay 35 = .ok (.iload_n 3, 1) := dk_29 (dk_at dksX1_canStay_1 12 rfl rfl)
theorem dX1_canStay_36 : decode cX1_canStay 36 = .ok (.aload_n 0, 1) := dk_42 (dk_at dksX1_canStay_1 13 rfl rfl)
theorem dX1_canStay_37 : decode cX1_canStay 37 = .ok (.getfield 10, 3) := dk_180 0 10 (dk_at dksX1_canStay_1 14 rfl rfl)
theorem dX1_canStay_40 : decode cX1_canStay 40 = .ok (.getfield 171, 3) := dk_180 0 171 (dk_at dksX1_canStay_1 17 rfl rfl)
theorem dX1_canStay_43 : decode cX1_canStay 43 = .ok (.iload_n 2, 1) := dk_28 (dk_at dksX1_canStay_1 20 rfl rfl)
theorem dX1_canStay_44 : decode cX1_canStay 44 = .ok (.iaload, 1) := dk_46 (dk_at dksX1_canStay_1 21 rfl rfl)
theorem dX1_canStay_45 : decode cX1_canStay 45 = .ok (.iadd, 1) := dk_96 (dk_at dksX1_canStay_1 22 rfl rfl)
theorem dX1_canStay_46 : decode cX1_canStay 46 = .ok (.if_icmp .ge 25, 3) := dk_162 0 25 (dk_at dksX1_canStay_2 0 rfl rfl)
theorem dX1_canStay_49 : decode cX1_canStay 49 = .ok (.aload_n 0, 1) := dk_42 (dk_at dksX1_canStay_2 3 rfl rfl)
theorem dX1_canStay_50 : decode cX1_canStay 50 = .ok (.getfield 10, 3) := dk_180 0 10 (dk_at dksX1_canStay_2 4 rfl rfl)
theorem dX1_canStay_53 : decode cX1_canStay 53 = .ok (.iload_n 1, 1) := dk_27 (dk_at dksX1_canStay_2 7 rfl rfl)
theorem dX1_canStay_54 : decode cX1_canStay 54 = .ok (.iload_n 2, 1) := dk_28 (dk_at dksX1_canStay_2 8 rfl rfl)
theorem dX1_canStay_55 : decode cX1_canStay 55 = .ok (.iload 4, 2) := dk_21 4 (dk_at dksX1_canStay_2 9 rfl rfl)
theorem dX1_canStay_57 : decode cX1_canStay 57 = .ok (.invokevirtual 432, 3) := dk_182 1 176 (dk_at dksX1_canStay_2 11 rfl rfl)
theorem dX1_canStay_60 : decode cX1_canStay 60 = .ok (.ifCond .ne 5, 3) := dk_154 0 5 (dk_at dksX1_canStay_2 14 rfl rfl)
theorem dX1_canStay_63 : decode cX1_canStay 63 = .ok (.iconst 0, 1) := dk_3 (dk_at dksX1_canStay_2 17 rfl rfl)
theorem dX1_canStay_64 : decode cX1_canStay 64 = .ok (.ireturn, 1) := dk_172 (dk_at dksX1_canStay_2 18 rfl rfl)
theorem dX1_canStay_65 : decode cX1_canStay 65 = .ok (.iinc 4 1, 3) := dk_132 4 1 (dk_at dksX1_canStay_2 19 rfl rfl)
theorem dX1_canStay_68 : decode cX1_canStay 68 = .ok (.goto (-35), 3) := dk_167 255 221 (dk_at dksX1_canStay_3 0 rfl rfl)
theorem dX1_canStay_71 : decode cX1_canStay 71 = .ok (.iconst 1, 1) := dk_4 (dk_at dksX1_canStay_3 3 rfl rfl)
theorem dX1_canStay_72 : decode cX1_canStay 72 = .ok (.ireturn, 1) := dk_172 (dk_at dksX1_canStay_3 4 rfl rfl)
abbrev cX1_afternoon : ByteArray := prog_1_method_77_code
def yX1_afternoon : MethodName := ⟨RX1, "afternoon", "(II)I"⟩
def dkwX1_afternoon_4 : List UInt8 := [167, 255, 201, 21, 4, 172]
abbrev dktX1_afternoon_4 : List UInt8 := dkwX1_afternoon_4 ++ []
def dkwX1_afternoon_3 : List UInt8 := [132, 4, 1, 167, 255, 229, 21, 4, 2, 159, 0, 10, 29, 4, 21, 4, 120, 128, 62, 132, 5, 1]
abbrev dktX1_afternoon_3 : List UInt8 := dkwX1_afternoon_3 ++ dktX1_afternoon_4
def dkwX1_afternoon_2 : List UInt8 := [42, 27, 21, 5, 29, 21, 4, 182, 2, 81, 42, 180, 0, 59, 21, 5, 29, 184, 2, 78, 46, 159, 0, 9]
abbrev dktX1_afternoon_2 : List UInt8 := dkwX1_afternoon_2 ++ dktX1_afternoon_3
def dkwX1_afternoon_1 : List UInt8 := [42, 180, 0, 59, 3, 46, 172, 3, 62, 2, 54, 4, 3, 54, 5, 21, 5, 28, 163, 0, 55, 2, 54, 4]
abbrev dktX1_afternoon_1 : List UInt8 := dkwX1_afternoon_1 ++ dktX1_afternoon_2
def dkwX1_afternoon_0 : List UInt8 := [27, 184, 1, 239, 28, 2, 159, 0, 8, 42, 28, 182, 1, 233, 42, 27, 182, 2, 88, 28, 2, 160, 0, 10]
abbrev dktX1_afternoon_0 : List UInt8 := dkwX1_afternoon_0 ++ dktX1_afternoon_1
theorem dksX1_afternoon_0 : cX1_afternoon.data.toList.drop 0 = dktX1_afternoon_0 := by decide +kernel
theorem dksX1_afternoon_1 : cX1_afternoon.data.toList.drop 24 = dktX1_afternoon_1 := dk_seg dksX1_afternoon_0 24 rfl rfl
theorem dksX1_afternoon_2 : cX1_afternoon.data.toList.drop 48 = dktX1_afternoon_2 := dk_seg dksX1_afternoon_1 24 rfl rfl
theorem dksX1_afternoon_3 : cX1_afternoon.data.toList.drop 72 = dktX1_afternoon_3 := dk_seg dksX1_afternoon_2 24 rfl rfl
theorem dksX1_afternoon_4 : cX1_afternoon.data.toList.drop 94 = dktX1_afternoon_4 := dk_seg dksX1_afternoon_3 22 rfl rfl
theorem dX1_afternoon_0 : decode cX1_afternoon 0 = .ok (.iload_n 1, 1) := dk_27 (dk_at dksX1_afternoon_0 0 rfl rfl)
theorem dX1_afternoon_1 : decode cX1_afternoon 1 = .ok (.invokestatic 495, 3) := dk_184 1 239 (dk_at dksX1_afternoon_0 1 rfl rfl)
theorem dX1_afternoon_4 : decode cX1_afternoon 4 = .ok (.iload_n 2, 1) := dk_28 (dk_at dksX1_afternoon_0 4 rfl rfl)
theorem dX1_afternoon_5 : decode cX1_afternoon 5 = .ok (.iconst (-1), 1) := dk_2 (dk_at dksX1_afternoon_0 5 rfl rfl)
theorem dX1_afternoon_6 : decode cX1_afternoon 6 = .ok (.if_icmp .eq 8, 3) := dk_159 0 8 (dk_at dksX1_afternoon_0 6 rfl rfl)
theorem dX1_afternoon_9 : decode cX1_afternoon 9 = .ok (.aload_n 0, 1) := dk_42 (dk_at dksX1_afternoon_0 9 rfl rfl)
theorem dX1_afternoon_10 : decode cX1_afternoon 10 = .ok (.iload_n 2, 1) := dk_28 (dk_at dksX1_afternoon_0 10 rfl rfl)
theorem dX1_afternoon_11 : decode cX1_afternoon 11 = .ok (.invokevirtual 489, 3) := dk_182 1 233 (dk_at dksX1_afternoon_0 11 rfl rfl)
theorem dX1_afternoon_14 : decode cX1_afternoon 14 = .ok (.aload_n 0, 1) := dk_42 (dk_at dksX1_afternoon_0 14 rfl rfl)
theorem dX1_afternoon_15 : decode cX1_afternoon 15 = .ok (.iload_n 1, 1) := dk_27 (dk_at dksX1_afternoon_0 15 rfl rfl)
theorem dX1_afternoon_16 : decode cX1_afternoon 16 = .ok (.invokevirtual 600, 3) := dk_182 2 88 (dk_at dksX1_afternoon_0 16 rfl rfl)
theorem dX1_afternoon_19 : decode cX1_afternoon 19 = .ok (.iload_n 2, 1) := dk_28 (dk_at dksX1_afternoon_0 19 rfl rfl)
theorem dX1_afternoon_20 : decode cX1_afternoon 20 = .ok (.iconst (-1), 1) := dk_2 (dk_at dksX1_afternoon_0 20 rfl rfl)
theorem dX1_afternoon_21 : decode cX1_afternoon 21 = .ok (.if_icmp .ne 10, 3) := dk_160 0 10 (dk_at dksX1_afternoon_0 21 rfl rfl)
theorem dX1_afternoon_24 : decode cX1_afternoon 24 = .ok (.aload_n 0, 1) := dk_42 (dk_at dksX1_afternoon_1 0 rfl rfl)
theorem dX1_afternoon_25 : decode cX1_afternoon 25 = .ok (.getfield 59, 3) := dk_180 0 59 (dk_at dksX1_afternoon_1 1 rfl rfl)
theorem dX1_afternoon_28 : decode cX1_afternoon 28 = .ok (.iconst 0, 1) := dk_3 (dk_at dksX1_afternoon_1 4 rfl rfl)
theorem dX1_afternoon_29 : decode cX1_afternoon 29 = .ok (.iaload, 1) := dk_46 (dk_at dksX1_afternoon_1 5 rfl rfl)
theorem dX1_afternoon_30 : decode cX1_afternoon 30 = .ok (.ireturn, 1) := dk_172 (dk_at dksX1_afternoon_1 6 rfl rfl)
theorem dX1_afternoon_31 : decode cX1_afternoon 31 = .ok (.iconst 0, 1) := dk_3 (dk_at dksX1_afternoon_1 7 rfl rfl)
theorem dX1_afternoon_32 : decode cX1_afternoon 32 = .ok (.istore_n 3, 1) := dk_62 (dk_at dksX1_afternoon_1 8 rfl rfl)
theorem dX1_afternoon_33 : decode cX1_afternoon 33 = .ok (.iconst (-1), 1) := dk_2 (dk_at dksX1_afternoon_1 9 rfl rfl)
theorem dX1_afternoon_34 : decode cX1_afternoon 34 = .ok (.istore 4, 2) := dk_54 4 (dk_at dksX1_afternoon_1 10 rfl rfl)
theorem dX1_afternoon_36 : decode cX1_afternoon 36 = .ok (.iconst 0, 1) := dk_3 (dk_at dksX1_afternoon_1 12 rfl rfl)
theorem dX1_afternoon_37 : decode cX1_afternoon 37 = .ok (.istore 5, 2) := dk_54 5 (dk_at dksX1_afternoon_1 13 rfl rfl)
theorem dX1_afternoon_39 : decode cX1_afternoon 39 = .ok (.iload 5, 2) := dk_21 5 (dk_at dksX1_afternoon_1 15 rfl rfl)
theorem dX1_afternoon_41 : decode cX1_afternoon 41 = .ok (.iload_n 2, 1) := dk_28 (dk_at dksX1_afternoon_1 17 rfl rfl)
theorem dX1_afternoon_42 : decode cX1_afternoon 42 = .ok (.if_icmp .gt 55, 3) := dk_163 0 55 (dk_at dksX1_afternoon_1 18 rfl rfl)
theorem dX1_afternoon_45 : decode cX1_afternoon 45 = .ok (.iconst (-1), 1) := dk_2 (dk_at dksX1_afternoon_1 21 rfl rfl)
theorem dX1_afternoon_46 : decode cX1_afternoon 46 = .ok (.istore 4, 2) := dk_54 4 (dk_at dksX1_afternoon_1 22 rfl rfl)
theorem dX1_afternoon_48 : decode cX1_afternoon 48 = .ok (.aload_n 0, 1) := dk_42 (dk_at dksX1_afternoon_2 0 rfl rfl)
theorem dX1_afternoon_49 : decode cX1_afternoon 49 = .ok (.iload_n 1, 1) := dk_27 (dk_at dksX1_afternoon_2 1 rfl rfl)
theorem dX1_afternoon_50 : decode cX1_afternoon 50 = .ok (.iload 5, 2) := dk_21 5 (dk_at dksX1_afternoon_2 2 rfl rfl)
theorem dX1_afternoon_52 : decode cX1_afternoon 52 = .ok (.iload_n 3, 1) := dk_29 (dk_at dksX1_afternoon_2 4 rfl rfl)
theorem dX1_afternoon_53 : decode cX1_afternoon 53 = .ok (.iload 4, 2) := dk_21 4 (dk_at dksX1_afternoon_2 5 rfl rfl)
theorem dX1_afternoon_55 : decode cX1_afternoon 55 = .ok (.invokevirtual 593, 3) := dk_182 2 81 (dk_at dksX1_afternoon_2 7 rfl rfl)
theorem dX1_afternoon_58 : decode cX1_afternoon 58 = .ok (.aload_n 0, 1) := dk_42 (dk_at dksX1_afternoon_2 10 rfl rfl)
theorem dX1_afternoon_59 : decode cX1_afternoon 59 = .ok (.getfield 59, 3) := dk_180 0 59 (dk_at dksX1_afternoon_2 11 rfl rfl)
theorem dX1_afternoon_62 : decode cX1_afternoon 62 = .ok (.iload 5, 2) := dk_21 5 (dk_at dksX1_afternoon_2 14 rfl rfl)
theorem dX1_afternoon_64 : decode cX1_afternoon 64 = .ok (.iload_n 3, 1) := dk_29 (dk_at dksX1_afternoon_2 16 rfl rfl)
theorem dX1_afternoon_65 : decode cX1_afternoon 65 = .ok (.invokestatic 590, 3) := dk_184 2 78 (dk_at dksX1_afternoon_2 17 rfl rfl)
theorem dX1_afternoon_68 : decode cX1_afternoon 68 = .ok (.iaload, 1) := dk_46 (dk_at dksX1_afternoon_2 20 rfl rfl)
theorem dX1_afternoon_69 : decode cX1_afternoon 69 = .ok (.if_icmp .eq 9, 3) := dk_159 0 9 (dk_at dksX1_afternoon_2 21 rfl rfl)
theorem dX1_afternoon_72 : decode cX1_afternoon 72 = .ok (.iinc 4 1, 3) := dk_132 4 1 (dk_at dksX1_afternoon_3 0 rfl rfl)
theorem dX1_afternoon_75 : decode cX1_afternoon 75 = .ok (.goto (-27), 3) := dk_167 255 229 (dk_at dksX1_afternoon_3 3 rfl rfl)
theorem dX1_afternoon_78 : decode cX1_afternoon 78 = .ok (.iload 4, 2) := dk_21 4 (dk_at dksX1_afternoon_3 6 rfl rfl)
theorem dX1_afternoon_80 : decode cX1_afternoon 80 = .ok (.iconst (-1), 1) := dk_2 (dk_at dksX1_afternoon_3 8 rfl rfl)
theorem dX1_afternoon_81 : decode cX1_afternoon 81 = .ok (.if_icmp .eq 10, 3) := dk_159 0 10 (dk_at dksX1_afternoon_3 9 rfl rfl)
theorem dX1_afternoon_84 : decode cX1_afternoon 84 = .ok (.iload_n 3, 1) := dk_29 (dk_at dksX1_afternoon_3 12 rfl rfl)
theorem dX1_afternoon_85 : decode cX1_afternoon 85 = .ok (.iconst 1, 1) := dk_4 (dk_at dksX1_afternoon_3 13 rfl rfl)
theorem dX1_afternoon_86 : decode cX1_afternoon 86 = .ok (.iload 4, 2) := dk_21 4 (dk_at dksX1_afternoon_3 14 rfl rfl)
theorem dX1_afternoon_88 : decode cX1_afternoon 88 = .ok (.ishl, 1) := dk_120 (dk_at dksX1_afternoon_3 16 rfl rfl)
theorem dX1_afternoon_89 : decode cX1_afternoon 89 = .ok (.ior, 1) := dk_128 (dk_at dksX1_afternoon_3 17 rfl rfl)
theorem dX1_afternoon_90 : decode cX1_afternoon 90 = .ok (.istore_n 3, 1) := dk_62 (dk_at dksX1_afternoon_3 18 rfl rfl)
theorem dX1_afternoon_91 : decode cX1_afternoon 91 = .ok (.iinc 5 1, 3) := dk_132 5 1 (dk_at dksX1_afternoon_3 19 rfl rfl)
theorem dX1_afternoon_94 : decode cX1_afternoon 94 = .ok (.goto (-55), 3) := dk_167 255 201 (dk_at dksX1_afternoon_4 0 rfl rfl)
theorem dX1_afternoon_97 : decode cX1_afternoon 97 = .ok (.iload 4, 2) := dk_21 4 (dk_at dksX1_afternoon_4 3 rfl rfl)
theorem dX1_afternoon_99 : decode cX1_afternoon 99 = .ok (.ireturn, 1) := dk_172 (dk_at dksX1_afternoon_4 5 rfl rfl)
abbrev cX1_laysAfternoon : ByteArray := prog_1_method_76_code
def yX1_laysAfternoon : MethodName := ⟨RX1, "laysAfternoon", "(I)V"⟩
def dkwX1_laysAfternoon_4 : List UInt8 := [167, 255, 171, 177]
abbrev dktX1_laysAfternoon_4 : List UInt8 := dkwX1_laysAfternoon_4 ++ []
def dkwX1_laysAfternoon_3 : List UInt8 := [167, 255, 214, 42, 180, 0, 59, 28, 29, 184, 2, 78, 21, 4, 79, 132, 3, 1, 167, 255, 183, 132, 2, 255]
abbrev dktX1_laysAfternoon_3 : List UInt8 := dkwX1_laysAfternoon_3 ++ dktX1_laysAfternoon_4
def dkwX1_laysAfternoon_2 : List UInt8 := [162, 0, 25, 21, 4, 42, 27, 28, 29, 21, 5, 182, 2, 81, 184, 2, 85, 54, 4, 132, 5, 1]
abbrev dktX1_laysAfternoon_2 : List UInt8 := dkwX1_laysAfternoon_2 ++ dktX1_laysAfternoon_3
def dkwX1_laysAfternoon_1 : List UInt8 := [2, 54, 5, 21, 5, 42, 180, 0, 10, 180, 0, 168, 162, 0, 36, 28, 42, 180, 0, 10, 180, 0, 132]
abbrev dktX1_laysAfternoon_1 : List UInt8 := dkwX1_laysAfternoon_1 ++ dktX1_laysAfternoon_2
def dkwX1_laysAfternoon_0 : List UInt8 := [42, 180, 0, 10, 180, 0, 132, 61, 28, 155, 0, 87, 3, 62, 29, 17, 1, 0, 162, 0, 72, 3, 54, 4]
abbrev dktX1_laysAfternoon_0 : List UInt8 := dkwX1_laysAfternoon_0 ++ dktX1_laysAfternoon_1
theorem dksX1_laysAfternoon_0 : cX1_laysAfternoon.data.toList.drop 0 = dktX1_laysAfternoon_0 := by decide +kernel
theorem dksX1_laysAfternoon_1 : cX1_laysAfternoon.data.toList.drop 24 = dktX1_laysAfternoon_1 := dk_seg dksX1_laysAfternoon_0 24 rfl rfl
theorem dksX1_laysAfternoon_2 : cX1_laysAfternoon.data.toList.drop 47 = dktX1_laysAfternoon_2 := dk_seg dksX1_laysAfternoon_1 23 rfl rfl
theorem dksX1_laysAfternoon_3 : cX1_laysAfternoon.data.toList.drop 69 = dktX1_laysAfternoon_3 := dk_seg dksX1_laysAfternoon_2 22 rfl rfl
theorem dksX1_laysAfternoon_4 : cX1_laysAfternoon.data.toList.drop 93 = dktX1_laysAfternoon_4 := dk_seg dksX1_laysAfternoon_3 24 rfl rfl
theorem dX1_laysAfternoon_0 : decode cX1_laysAfternoon 0 = .ok (.aload_n 0, 1) := dk_42 (dk_at dksX1_laysAfternoon_0 0 rfl rfl)
theorem dX1_laysAfternoon_1 : decode cX1_laysAfternoon 1 = .ok (.getfield 10, 3) := dk_180 0 10 (dk_at dksX1_laysAfternoon_0 1 rfl rfl)
theorem dX1_laysAfternoon_4 : decode cX1_laysAfternoon 4 = .ok (.getfield 132, 3) := dk_180 0 132 (dk_at dksX1_laysAfternoon_0 4 rfl rfl)
theorem dX1_laysAfternoon_7 : decode cX1_laysAfternoon 7 = .ok (.istore_n 2, 1) := dk_61 (dk_at dksX1_laysAfternoon_0 7 rfl rfl)
theorem dX1_laysAfternoon_8 : decode cX1_laysAfternoon 8 = .ok (.iload_n 2, 1) := dk_28 (dk_at dksX1_laysAfternoon_0 8 rfl rfl)
theorem dX1_laysAfternoon_9 : decode cX1_laysAfternoon 9 = .ok (.ifCond .lt 87, 3) := dk_155 0 87 (dk_at dksX1_laysAfternoon_0 9 rfl rfl)
theorem dX1_laysAfternoon_12 : decode cX1_laysAfternoon 12 = .ok (.iconst 0, 1) := dk_3 (dk_at dksX1_laysAfternoon_0 12 rfl rfl)
theorem dX1_laysAfternoon_13 : decode cX1_laysAfternoon 13 = .ok (.istore_n 3, 1) := dk_62 (dk_at dksX1_laysAfternoon_0 13 rfl rfl)
theorem dX1_laysAfternoon_14 : decode cX1_laysAfternoon 14 = .ok (.iload_n 3, 1) := dk_29 (dk_at dksX1_laysAfternoon_0 14 rfl rfl)
theorem dX1_laysAfternoon_15 : decode cX1_laysAfternoon 15 = .ok (.sipush 256, 3) := dk_17 1 0 (dk_at dksX1_laysAfternoon_0 15 rfl rfl)
theorem dX1_laysAfternoon_18 : decode cX1_laysAfternoon 18 = .ok (.if_icmp .ge 72, 3) := dk_162 0 72 (dk_at dksX1_laysAfternoon_0 18 rfl rfl)
theorem dX1_laysAfternoon_21 : decode cX1_laysAfternoon 21 = .ok (.iconst 0, 1) := dk_3 (dk_at dksX1_laysAfternoon_0 21 rfl rfl)
theorem dX1_laysAfternoon_22 : decode cX1_laysAfternoon 22 = .ok (.istore 4, 2) := dk_54 4 (dk_at dksX1_laysAfternoon_0 22 rfl rfl)
theorem dX1_laysAfternoon_24 : decode cX1_laysAfternoon 24 = .ok (.iconst (-1), 1) := dk_2 (dk_at dksX1_laysAfternoon_1 0 rfl rfl)
theorem dX1_laysAfternoon_25 : decode cX1_laysAfternoon 25 = .ok (.istore 5, 2) := dk_54 5 (dk_at dksX1_laysAfternoon_1 1 rfl rfl)
theorem dX1_laysAfternoon_27 : decode cX1_laysAfternoon 27 = .ok (.iload 5, 2) := dk_21 5 (dk_at dksX1_laysAfternoon_1 3 rfl rfl)
theorem dX1_laysAfternoon_29 : decode cX1_laysAfternoon 29 = .ok (.aload_n 0, 1) := dk_42 (dk_at dksX1_laysAfternoon_1 5 rfl rfl)
theorem dX1_laysAfternoon_30 : decode cX1_laysAfternoon 30 = .ok (.getfield 10, 3) := dk_180 0 10 (dk_at dksX1_laysAfternoon_1 6 rfl rfl)
theorem dX1_laysAfternoon_33 : decode cX1_laysAfternoon 33 = .ok (.getfield 168, 3) := dk_180 0 168 (dk_at dksX1_laysAfternoon_1 9 rfl rfl)
theorem dX1_laysAfternoon_36 : decode cX1_laysAfternoon 36 = .ok (.if_icmp .ge 36, 3) := dk_162 0 36 (dk_at dksX1_laysAfternoon_1 12 rfl rfl)
theorem dX1_laysAfternoon_39 : decode cX1_laysAfternoon 39 = .ok (.iload_n 2, 1) := dk_28 (dk_at dksX1_laysAfternoon_1 15 rfl rfl)
theorem dX1_laysAfternoon_40 : decode cX1_laysAfternoon 40 = .ok (.aload_n 0, 1) := dk_42 (dk_at dksX1_laysAfternoon_1 16 rfl rfl)
theorem dX1_laysAfternoon_41 : decode cX1_laysAfternoon 41 = .ok (.getfield 10, 3) := dk_180 0 10 (dk_at dksX1_laysAfternoon_1 17 rfl rfl)
theorem dX1_laysAfternoon_44 : decode cX1_laysAfternoon 44 = .ok (.getfield 132, 3) := dk_180 0 132 (dk_at dksX1_laysAfternoon_1 20 rfl rfl)
theorem dX1_laysAfternoon_47 : decode cX1_laysAfternoon 47 = .ok (.if_icmp .ge 25, 3) := dk_162 0 25 (dk_at dksX1_laysAfternoon_2 0 rfl rfl)
theorem dX1_laysAfternoon_50 : decode cX1_laysAfternoon 50 = .ok (.iload 4, 2) := dk_21 4 (dk_at dksX1_laysAfternoon_2 3 rfl rfl)
theorem dX1_laysAfternoon_52 : decode cX1_laysAfternoon 52 = .ok (.aload_n 0, 1) := dk_42 (dk_at dksX1_laysAfternoon_2 5 rfl rfl)
theorem dX1_laysAfternoon_53 : decode cX1_laysAfternoon 53 = .ok (.iload_n 1, 1) := dk_27 (dk_at dksX1_laysAfternoon_2 6 rfl rfl)
theorem dX1_laysAfternoon_54 : decode cX1_laysAfternoon 54 = .ok (.iload_n 2, 1) := dk_28 (dk_at dksX1_laysAfternoon_2 7 rfl rfl)
theorem dX1_laysAfternoon_55 : decode cX1_laysAfternoon 55 = .ok (.iload_n 3, 1) := dk_29 (dk_at dksX1_laysAfternoon_2 8 rfl rfl)
theorem dX1_laysAfternoon_56 : decode cX1_laysAfternoon 56 = .ok (.iload 5, 2) := dk_21 5 (dk_at dksX1_laysAfternoon_2 9 rfl rfl)
theorem dX1_laysAfternoon_58 : decode cX1_laysAfternoon 58 = .ok (.invokevirtual 593, 3) := dk_182 2 81 (dk_at dksX1_laysAfternoon_2 11 rfl rfl)
theorem dX1_laysAfternoon_61 : decode cX1_laysAfternoon 61 = .ok (.invokestatic 597, 3) := dk_184 2 85 (dk_at dksX1_laysAfternoon_2 14 rfl rfl)
theorem dX1_laysAfternoon_64 : decode cX1_laysAfternoon 64 = .ok (.istore 4, 2) := dk_54 4 (dk_at dksX1_laysAfternoon_2 17 rfl rfl)
theorem dX1_laysAfternoon_66 : decode cX1_laysAfternoon 66 = .ok (.iinc 5 1, 3) := dk_132 5 1 (dk_at dksX1_laysAfternoon_2 19 rfl rfl)
theorem dX1_laysAfternoon_69 : decode cX1_laysAfternoon 69 = .ok (.goto (-42), 3) := dk_167 255 214 (dk_at dksX1_laysAfternoon_3 0 rfl rfl)
theorem dX1_laysAfternoon_72 : decode cX1_laysAfternoon 72 = .ok (.aload_n 0, 1) := dk_42 (dk_at dksX1_laysAfternoon_3 3 rfl rfl)
theorem dX1_laysAfternoon_73 : decode cX1_laysAfternoon 73 = .ok (.getfield 59, 3) := dk_180 0 59 (dk_at dksX1_laysAfternoon_3 4 rfl rfl)
theorem dX1_laysAfternoon_76 : decode cX1_laysAfternoon 76 = .ok (.iload_n 2, 1) := dk_28 (dk_at dksX1_laysAfternoon_3 7 rfl rfl)
theorem dX1_laysAfternoon_77 : decode cX1_laysAfternoon 77 = .ok (.iload_n 3, 1) := dk_29 (dk_at dksX1_laysAfternoon_3 8 rfl rfl)
theorem dX1_laysAfternoon_78 : decode cX1_laysAfternoon 78 = .ok (.invokestatic 590, 3) := dk_184 2 78 (dk_at dksX1_laysAfternoon_3 9 rfl rfl)
theorem dX1_laysAfternoon_81 : decode cX1_laysAfternoon 81 = .ok (.iload 4, 2) := dk_21 4 (dk_at dksX1_laysAfternoon_3 12 rfl rfl)
theorem dX1_laysAfternoon_83 : decode cX1_laysAfternoon 83 = .ok (.iastore, 1) := dk_79 (dk_at dksX1_laysAfternoon_3 14 rfl rfl)
theorem dX1_laysAfternoon_84 : decode cX1_laysAfternoon 84 = .ok (.iinc 3 1, 3) := dk_132 3 1 (dk_at dksX1_laysAfternoon_3 15 rfl rfl)
theorem dX1_laysAfternoon_87 : decode cX1_laysAfternoon 87 = .ok (.goto (-73), 3) := dk_167 255 183 (dk_at dksX1_laysAfternoon_3 18 rfl rfl)
theorem dX1_laysAfternoon_90 : decode cX1_laysAfternoon 90 = .ok (.iinc 2 (-1), 3) := dk_132 2 255 (dk_at dksX1_laysAfternoon_3 21 rfl rfl)
theorem dX1_laysAfternoon_93 : decode cX1_laysAfternoon 93 = .ok (.goto (-85), 3) := dk_167 255 171 (dk_at dksX1_laysAfternoon_4 0 rfl rfl)
theorem dX1_laysAfternoon_96 : decode cX1_laysAfternoon 96 = .ok (.return_, 1) := dk_177 (dk_at dksX1_laysAfternoon_4 3 rfl rfl)
abbrev cX1_afternoonBy : ByteArray := prog_1_method_75_code
def yX1_afternoonBy : MethodName := ⟨RX1, "afternoonBy", "(IIII)I"⟩
def dkwX1_afternoonBy_2 : List UInt8 := [4, 42, 180, 0, 59, 28, 4, 96, 29, 4, 21, 4, 120, 128, 184, 2, 78, 46, 96, 172]
abbrev dktX1_afternoonBy_2 : List UInt8 := dkwX1_afternoonBy_2 ++ []
def dkwX1_afternoonBy_1 : List UInt8 := [184, 0, 128, 154, 0, 17, 42, 180, 0, 10, 28, 21, 4, 27, 182, 1, 176, 154, 0, 7, 2, 167, 0, 22]
abbrev dktX1_afternoonBy_1 : List UInt8 := dkwX1_afternoonBy_1 ++ dktX1_afternoonBy_2
def dkwX1_afternoonBy_0 : List UInt8 := [21, 4, 2, 160, 0, 16, 42, 180, 0, 59, 28, 4, 96, 29, 184, 2, 78, 46, 172, 29, 21, 4]
abbrev dktX1_afternoonBy_0 : List UInt8 := dkwX1_afternoonBy_0 ++ dktX1_afternoonBy_1
theorem dksX1_afternoonBy_0 : cX1_afternoonBy.data.toList.drop 0 = dktX1_afternoonBy_0 := by decide +kernel
theorem dksX1_afternoonBy_1 : cX1_afternoonBy.data.toList.drop 22 = dktX1_afternoonBy_1 := dk_seg dksX1_afternoonBy_0 22 rfl rfl
theorem dksX1_afternoonBy_2 : cX1_afternoonBy.data.toList.drop 46 = dktX1_afternoonBy_2 := dk_seg dksX1_afternoonBy_1 24 rfl rfl
theorem dX1_afternoonBy_0 : decode cX1_afternoonBy 0 = .ok (.iload 4, 2) := dk_21 4 (dk_at dksX1_afternoonBy_0 0 rfl rfl)
theorem dX1_afternoonBy_2 : decode cX1_afternoonBy 2 = .ok (.iconst (-1), 1) := dk_2 (dk_at dksX1_afternoonBy_0 2 rfl rfl)
theorem dX1_afternoonBy_3 : decode cX1_afternoonBy 3 = .ok (.if_icmp .ne 16, 3) := dk_160 0 16 (dk_at dksX1_afternoonBy_0 3 rfl rfl)
theorem dX1_afternoonBy_6 : decode cX1_afternoonBy 6 = .ok (.aload_n 0, 1) := dk_42 (dk_at dksX1_afternoonBy_0 6 rfl rfl)
theorem dX1_afternoonBy_7 : decode cX1_afternoonBy 7 = .ok (.getfield 59, 3) := dk_180 0 59 (dk_at dksX1_afternoonBy_0 7 rfl rfl)
theorem dX1_afternoonBy_10 : decode cX1_afternoonBy 10 = .ok (.iload_n 2, 1) := dk_28 (dk_at dksX1_afternoonBy_0 10 rfl rfl)
theorem dX1_afternoonBy_11 : decode cX1_afternoonBy 11 = .ok (.iconst 1, 1) := dk_4 (dk_at dksX1_afternoonBy_0 11 rfl rfl)
theorem dX1_afternoonBy_12 : decode cX1_afternoonBy 12 = .ok (.iadd, 1) := dk_96 (dk_at dksX1_afternoonBy_0 12 rfl rfl)
theorem dX1_afternoonBy_13 : decode cX1_afternoonBy 13 = .ok (.iload_n 3, 1) := dk_29 (dk_at dksX1_afternoonBy_0 13 rfl rfl)
theorem dX1_afternoonBy_14 : decode cX1_afternoonBy 14 = .ok (.invokestatic 590, 3) := dk_184 2 78 (dk_at dksX1_afternoonBy_0 14 rfl rfl)
theorem dX1_afternoonBy_17 : decode cX1_afternoonBy 17 = .ok (.iaload, 1) := dk_46 (dk_at dksX1_afternoonBy_0 17 rfl rfl)
theorem dX1_afternoonBy_18 : decode cX1_afternoonBy 18 = .ok (.ireturn, 1) := dk_172 (dk_at dksX1_afternoonBy_0 18 rfl rfl)
theorem dX1_afternoonBy_19 : decode cX1_afternoonBy 19 = .ok (.iload_n 3, 1) := dk_29 (dk_at dksX1_afternoonBy_0 19 rfl rfl)
theorem dX1_afternoonBy_20 : decode cX1_afternoonBy 20 = .ok (.iload 4, 2) := dk_21 4 (dk_at dksX1_afternoonBy_0 20 rfl rfl)
theorem dX1_afternoonBy_22 : decode cX1_afternoonBy 22 = .ok (.invokestatic 128, 3) := dk_184 0 128 (dk_at dksX1_afternoonBy_1 0 rfl rfl)
theorem dX1_afternoonBy_25 : decode cX1_afternoonBy 25 = .ok (.ifCond .ne 17, 3) := dk_154 0 17 (dk_at dksX1_afternoonBy_1 3 rfl rfl)
theorem dX1_afternoonBy_28 : decode cX1_afternoonBy 28 = .ok (.aload_n 0, 1) := dk_42 (dk_at dksX1_afternoonBy_1 6 rfl rfl)
theorem dX1_afternoonBy_29 : decode cX1_afternoonBy 29 = .ok (.getfield 10, 3) := dk_180 0 10 (dk_at dksX1_afternoonBy_1 7 rfl rfl)
theorem dX1_afternoonBy_32 : decode cX1_afternoonBy 32 = .ok (.iload_n 2, 1) := dk_28 (dk_at dksX1_afternoonBy_1 10 rfl rfl)
theorem dX1_afternoonBy_33 : decode cX1_afternoonBy 33 = .ok (.iload 4, 2) := dk_21 4 (dk_at dksX1_afternoonBy_1 11 rfl rfl)
theorem dX1_afternoonBy_35 : decode cX1_afternoonBy 35 = .ok (.iload_n 1, 1) := dk_27 (dk_at dksX1_afternoonBy_1 13 rfl rfl)
theorem dX1_afternoonBy_36 : decode cX1_afternoonBy 36 = .ok (.invokevirtual 432, 3) := dk_182 1 176 (dk_at dksX1_afternoonBy_1 14 rfl rfl)
theorem dX1_afternoonBy_39 : decode cX1_afternoonBy 39 = .ok (.ifCond .ne 7, 3) := dk_154 0 7 (dk_at dksX1_afternoonBy_1 17 rfl rfl)
theorem dX1_afternoonBy_42 : decode cX1_afternoonBy 42 = .ok (.iconst (-1), 1) := dk_2 (dk_at dksX1_afternoonBy_1 20 rfl rfl)
theorem dX1_afternoonBy_43 : decode cX1_afternoonBy 43 = .ok (.goto 22, 3) := dk_167 0 22 (dk_at dksX1_afternoonBy_1 21 rfl rfl)
theorem dX1_afternoonBy_46 : decode cX1_afternoonBy 46 = .ok (.iconst 1, 1) := dk_4 (dk_at dksX1_afternoonBy_2 0 rfl rfl)
theorem dX1_afternoonBy_47 : decode cX1_afternoonBy 47 = .ok (.aload_n 0, 1) := dk_42 (dk_at dksX1_afternoonBy_2 1 rfl rfl)
theorem dX1_afternoonBy_48 : decode cX1_afternoonBy 48 = .ok (.getfield 59, 3) := dk_180 0 59 (dk_at dksX1_afternoonBy_2 2 rfl rfl)
theorem dX1_afternoonBy_51 : decode cX1_afternoonBy 51 = .ok (.iload_n 2, 1) := dk_28 (dk_at dksX1_afternoonBy_2 5 rfl rfl)
theorem dX1_afternoonBy_52 : decode cX1_afternoonBy 52 = .ok (.iconst 1, 1) := dk_4 (dk_at dksX1_afternoonBy_2 6 rfl rfl)
theorem dX1_afternoonBy_53 : decode cX1_afternoonBy 53 = .ok (.iadd, 1) := dk_96 (dk_at dksX1_afternoonBy_2 7 rfl rfl)
theorem dX1_afternoonBy_54 : decode cX1_afternoonBy 54 = .ok (.iload_n 3, 1) := dk_29 (dk_at dksX1_afternoonBy_2 8 rfl rfl)
theorem dX1_afternoonBy_55 : decode cX1_afternoonBy 55 = .ok (.iconst 1, 1) := dk_4 (dk_at dksX1_afternoonBy_2 9 rfl rfl)
theorem dX1_afternoonBy_56 : decode cX1_afternoonBy 56 = .ok (.iload 4, 2) := dk_21 4 (dk_at dksX1_afternoonBy_2 10 rfl rfl)
theorem dX1_afternoonBy_58 : decode cX1_afternoonBy 58 = .ok (.ishl, 1) := dk_120 (dk_at dksX1_afternoonBy_2 12 rfl rfl)
theorem dX1_afternoonBy_59 : decode cX1_afternoonBy 59 = .ok (.ior, 1) := dk_128 (dk_at dksX1_afternoonBy_2 13 rfl rfl)
theorem dX1_afternoonBy_60 : decode cX1_afternoonBy 60 = .ok (.invokestatic 590, 3) := dk_184 2 78 (dk_at dksX1_afternoonBy_2 14 rfl rfl)
theorem dX1_afternoonBy_63 : decode cX1_afternoonBy 63 = .ok (.iaload, 1) := dk_46 (dk_at dksX1_afternoonBy_2 17 rfl rfl)
theorem dX1_afternoonBy_64 : decode cX1_afternoonBy 64 = .ok (.iadd, 1) := dk_96 (dk_at dksX1_afternoonBy_2 18 rfl rfl)
theorem dX1_afternoonBy_65 : decode cX1_afternoonBy 65 = .ok (.ireturn, 1) := dk_172 (dk_at dksX1_afternoonBy_2 19 rfl rfl)
abbrev cX1_mostAt : ByteArray := prog_1_method_74_code
def yX1_mostAt : MethodName := ⟨RX1, "mostAt", "(II)I"⟩
def dkwX1_mostAt_0 : List UInt8 := [26, 16, 8, 120, 27, 96, 172]
abbrev dktX1_mostAt_0 : List UInt8 := dkwX1_mostAt_0 ++ []
theorem dksX1_mostAt_0 : cX1_mostAt.data.toList.drop 0 = dktX1_mostAt_0 := by decide +kernel
theorem dX1_mostAt_0 : decode cX1_mostAt 0 = .ok (.iload_n 0, 1) := dk_26 (dk_at dksX1_mostAt_0 0 rfl rfl)
theorem dX1_mostAt_1 : decode cX1_mostAt 1 = .ok (.bipush 8, 2) := dk_16 8 (dk_at dksX1_mostAt_0 1 rfl rfl)
theorem dX1_mostAt_3 : decode cX1_mostAt 3 = .ok (.ishl, 1) := dk_120 (dk_at dksX1_mostAt_0 3 rfl rfl)
theorem dX1_mostAt_4 : decode cX1_mostAt 4 = .ok (.iload_n 1, 1) := dk_27 (dk_at dksX1_mostAt_0 4 rfl rfl)
theorem dX1_mostAt_5 : decode cX1_mostAt 5 = .ok (.iadd, 1) := dk_96 (dk_at dksX1_mostAt_0 5 rfl rfl)
theorem dX1_mostAt_6 : decode cX1_mostAt 6 = .ok (.ireturn, 1) := dk_172 (dk_at dksX1_mostAt_0 6 rfl rfl)
abbrev cX1_rules : ByteArray := prog_1_method_82_code
def yX1_rules : MethodName := ⟨RX1, "rules", "(Z)I"⟩
def dkwX1_rules_3 : List UInt8 := [27, 154, 0, 7, 28, 167, 0, 12, 28, 154, 0, 7, 2, 167, 0, 4, 29, 172]
abbrev dktX1_rules_3 : List UInt8 := dkwX1_rules_3 ++ []
def dkwX1_rules_2 : List UInt8 := [21, 4, 46, 42, 180, 0, 65, 21, 4, 46, 128, 184, 2, 73, 184, 1, 191, 62, 132, 4, 1, 167, 255, 207]
abbrev dktX1_rules_2 : List UInt8 := dkwX1_rules_2 ++ dktX1_rules_3
def dkwX1_rules_1 : List UInt8 := [162, 0, 47, 42, 21, 4, 182, 2, 99, 154, 0, 6, 167, 0, 29, 132, 2, 1, 29, 42, 180, 0, 62]
abbrev dktX1_rules_1 : List UInt8 := dkwX1_rules_1 ++ dktX1_rules_2
def dkwX1_rules_0 : List UInt8 := [42, 182, 2, 93, 42, 182, 2, 96, 3, 61, 19, 2, 65, 62, 3, 54, 4, 21, 4, 17, 2, 217]
abbrev dktX1_rules_0 : List UInt8 := dkwX1_rules_0 ++ dktX1_rules_1
theorem dksX1_rules_0 : cX1_rules.data.toList.drop 0 = dktX1_rules_0 := by decide +kernel
theorem dksX1_rules_1 : cX1_rules.data.toList.drop 22 = dktX1_rules_1 := dk_seg dksX1_rules_0 22 rfl rfl
theorem dksX1_rules_2 : cX1_rules.data.toList.drop 45 = dktX1_rules_2 := dk_seg dksX1_rules_1 23 rfl rfl
theorem dksX1_rules_3 : cX1_rules.data.toList.drop 69 = dktX1_rules_3 := dk_seg dksX1_rules_2 24 rfl rfl
theorem dX1_rules_0 : decode cX1_rules 0 = .ok (.aload_n 0, 1) := dk_42 (dk_at dksX1_rules_0 0 rfl rfl)
theorem dX1_rules_1 : decode cX1_rules 1 = .ok (.invokevirtual 605, 3) := dk_182 2 93 (dk_at dksX1_rules_0 1 rfl rfl)
theorem dX1_rules_4 : decode cX1_rules 4 = .ok (.aload_n 0, 1) := dk_42 (dk_at dksX1_rules_0 4 rfl rfl)
theorem dX1_rules_5 : decode cX1_rules 5 = .ok (.invokevirtual 608, 3) := dk_182 2 96 (dk_at dksX1_rules_0 5 rfl rfl)
theorem dX1_rules_8 : decode cX1_rules 8 = .ok (.iconst 0, 1) := dk_3 (dk_at dksX1_rules_0 8 rfl rfl)
theorem dX1_rules_9 : decode cX1_rules 9 = .ok (.istore_n 2, 1) := dk_61 (dk_at dksX1_rules_0 9 rfl rfl)
theorem dX1_rules_10 : decode cX1_rules 10 = .ok (.ldc_w 577, 3) := dk_19 2 65 (dk_at dksX1_rules_0 10 rfl rfl)
theorem dX1_rules_13 : decode cX1_rules 13 = .ok (.istore_n 3, 1) := dk_62 (dk_at dksX1_rules_0 13 rfl rfl)
theorem dX1_rules_14 : decode cX1_rules 14 = .ok (.iconst 0, 1) := dk_3 (dk_at dksX1_rules_0 14 rfl rfl)
theorem dX1_rules_15 : decode cX1_rules 15 = .ok (.istore 4, 2) := dk_54 4 (dk_at dksX1_rules_0 15 rfl rfl)
theorem dX1_rules_17 : decode cX1_rules 17 = .ok (.iload 4, 2) := dk_21 4 (dk_at dksX1_rules_0 17 rfl rfl)
theorem dX1_rules_19 : decode cX1_rules 19 = .ok (.sipush 729, 3) := dk_17 2 217 (dk_at dksX1_rules_0 19 rfl rfl)
theorem dX1_rules_22 : decode cX1_rules 22 = .ok (.if_icmp .ge 47, 3) := dk_162 0 47 (dk_at dksX1_rules_1 0 rfl rfl)
theorem dX1_rules_25 : decode cX1_rules 25 = .ok (.aload_n 0, 1) := dk_42 (dk_at dksX1_rules_1 3 rfl rfl)
theorem dX1_rules_26 : decode cX1_rules 26 = .ok (.iload 4, 2) := dk_21 4 (dk_at dksX1_rules_1 4 rfl rfl)
theorem dX1_rules_28 : decode cX1_rules 28 = .ok (.invokevirtual 611, 3) := dk_182 2 99 (dk_at dksX1_rules_1 6 rfl rfl)
theorem dX1_rules_31 : decode cX1_rules 31 = .ok (.ifCond .ne 6, 3) := dk_154 0 6 (dk_at dksX1_rules_1 9 rfl rfl)
theorem dX1_rules_34 : decode cX1_rules 34 = .ok (.goto 29, 3) := dk_167 0 29 (dk_at dksX1_rules_1 12 rfl rfl)
theorem dX1_rules_37 : decode cX1_rules 37 = .ok (.iinc 2 1, 3) := dk_132 2 1 (dk_at dksX1_rules_1 15 rfl rfl)
theorem dX1_rules_40 : decode cX1_rules 40 = .ok (.iload_n 3, 1) := dk_29 (dk_at dksX1_rules_1 18 rfl rfl)
theorem dX1_rules_41 : decode cX1_rules 41 = .ok (.aload_n 0, 1) := dk_42 (dk_at dksX1_rules_1 19 rfl rfl)
theorem dX1_rules_42 : decode cX1_rules 42 = .ok (.getfield 62, 3) := dk_180 0 62 (dk_at dksX1_rules_1 20 rfl rfl)
theorem dX1_rules_45 : decode cX1_rules 45 = .ok (.iload 4, 2) := dk_21 4 (dk_at dksX1_rules_2 0 rfl rfl)
theorem dX1_rules_47 : decode cX1_rules 47 = .ok (.iaload, 1) := dk_46 (dk_at dksX1_rules_2 2 rfl rfl)
theorem dX1_rules_48 : decode cX1_rules 48 = .ok (.aload_n 0, 1) := dk_42 (dk_at dksX1_rules_2 3 rfl rfl)
theorem dX1_rules_49 : decode cX1_rules 49 = .ok (.getfield 65, 3) := dk_180 0 65 (dk_at dksX1_rules_2 4 rfl rfl)
theorem dX1_rules_52 : decode cX1_rules 52 = .ok (.iload 4, 2) := dk_21 4 (dk_at dksX1_rules_2 7 rfl rfl)
theorem dX1_rules_54 : decode cX1_rules 54 = .ok (.iaload, 1) := dk_46 (dk_at dksX1_rules_2 9 rfl rfl)
theorem dX1_rules_55 : decode cX1_rules 55 = .ok (.ior, 1) := dk_128 (dk_at dksX1_rules_2 10 rfl rfl)
theorem dX1_rules_56 : decode cX1_rules 56 = .ok (.invokestatic 585, 3) := dk_184 2 73 (dk_at dksX1_rules_2 11 rfl rfl)
theorem dX1_rules_59 : decode cX1_rules 59 = .ok (.invokestatic 447, 3) := dk_184 1 191 (dk_at dksX1_rules_2 14 rfl rfl)
theorem dX1_rules_62 : decode cX1_rules 62 = .ok (.istore_n 3, 1) := dk_62 (dk_at dksX1_rules_2 17 rfl rfl)
theorem dX1_rules_63 : decode cX1_rules 63 = .ok (.iinc 4 1, 3) := dk_132 4 1 (dk_at dksX1_rules_2 18 rfl rfl)
theorem dX1_rules_66 : decode cX1_rules 66 = .ok (.goto (-49), 3) := dk_167 255 207 (dk_at dksX1_rules_2 21 rfl rfl)
theorem dX1_rules_69 : decode cX1_rules 69 = .ok (.iload_n 1, 1) := dk_27 (dk_at dksX1_rules_3 0 rfl rfl)
theorem dX1_rules_70 : decode cX1_rules 70 = .ok (.ifCond .ne 7, 3) := dk_154 0 7 (dk_at dksX1_rules_3 1 rfl rfl)
theorem dX1_rules_73 : decode cX1_rules 73 = .ok (.iload_n 2, 1) := dk_28 (dk_at dksX1_rules_3 4 rfl rfl)
theorem dX1_rules_74 : decode cX1_rules 74 = .ok (.goto 12, 3) := dk_167 0 12 (dk_at dksX1_rules_3 5 rfl rfl)
theorem dX1_rules_77 : decode cX1_rules 77 = .ok (.iload_n 2, 1) := dk_28 (dk_at dksX1_rules_3 8 rfl rfl)
theorem dX1_rules_78 : decode cX1_rules 78 = .ok (.ifCond .ne 7, 3) := dk_154 0 7 (dk_at dksX1_rules_3 9 rfl rfl)
theorem dX1_rules_81 : decode cX1_rules 81 = .ok (.iconst (-1), 1) := dk_2 (dk_at dksX1_rules_3 12 rfl rfl)
theorem dX1_rules_82 : decode cX1_rules 82 = .ok (.goto 4, 3) := dk_167 0 4 (dk_at dksX1_rules_3 13 rfl rfl)
theorem dX1_rules_85 : decode cX1_rules 85 = .ok (.iload_n 3, 1) := dk_29 (dk_at dksX1_rules_3 16 rfl rfl)
theorem dX1_rules_86 : decode cX1_rules 86 = .ok (.ireturn, 1) := dk_172 (dk_at dksX1_rules_3 17 rfl rfl)
abbrev cX1_gateTold : ByteArray := prog_1_method_78_code
def yX1_gateTold : MethodName := ⟨RX1, "gateTold", "()V"⟩
def dkwX1_gateTold_3 : List UInt8 := [184, 0, 124, 153, 0, 7, 4, 167, 0, 4, 3, 184, 1, 242, 132, 2, 2, 167, 255, 206, 177]
abbrev dktX1_gateTold_3 : List UInt8 := dkwX1_gateTold_3 ++ []
def dkwX1_gateTold_2 : List UInt8 := [180, 2, 49, 28, 51, 3, 16, 63, 184, 0, 124, 153, 0, 23, 43, 180, 2, 49, 28, 4, 96, 51, 3, 4]
abbrev dktX1_gateTold_2 : List UInt8 := dkwX1_gateTold_2 ++ dktX1_gateTold_3
def dkwX1_gateTold_1 : List UInt8 := [163, 0, 7, 4, 167, 0, 4, 3, 184, 1, 242, 3, 61, 28, 43, 180, 2, 46, 162, 0, 48, 43]
abbrev dktX1_gateTold_1 : List UInt8 := dkwX1_gateTold_1 ++ dktX1_gateTold_2
def dkwX1_gateTold_0 : List UInt8 := [42, 180, 0, 25, 76, 43, 182, 1, 0, 43, 180, 2, 46, 5, 112, 154, 0, 16, 43, 180, 2, 46, 16, 40]
abbrev dktX1_gateTold_0 : List UInt8 := dkwX1_gateTold_0 ++ dktX1_gateTold_1
theorem dksX1_gateTold_0 : cX1_gateTold.data.toList.drop 0 = dktX1_gateTold_0 := by decide +kernel
theorem dksX1_gateTold_1 : cX1_gateTold.data.toList.drop 24 = dktX1_gateTold_1 := dk_seg dksX1_gateTold_0 24 rfl rfl
theorem dksX1_gateTold_2 : cX1_gateTold.data.toList.drop 46 = dktX1_gateTold_2 := dk_seg dksX1_gateTold_1 22 rfl rfl
theorem dksX1_gateTold_3 : cX1_gateTold.data.toList.drop 70 = dktX1_gateTold_3 := dk_seg dksX1_gateTold_2 24 rfl rfl
theorem dX1_gateTold_0 : decode cX1_gateTold 0 = .ok (.aload_n 0, 1) := dk_42 (dk_at dksX1_gateTold_0 0 rfl rfl)
theorem dX1_gateTold_1 : decode cX1_gateTold 1 = .ok (.getfield 25, 3) := dk_180 0 25 (dk_at dksX1_gateTold_0 1 rfl rfl)
theorem dX1_gateTold_4 : decode cX1_gateTold 4 = .ok (.astore_n 1, 1) := dk_76 (dk_at dksX1_gateTold_0 4 rfl rfl)
theorem dX1_gateTold_5 : decode cX1_gateTold 5 = .ok (.aload_n 1, 1) := dk_43 (dk_at dksX1_gateTold_0 5 rfl rfl)
theorem dX1_gateTold_6 : decode cX1_gateTold 6 = .ok (.invokevirtual 256, 3) := dk_182 1 0 (dk_at dksX1_gateTold_0 6 rfl rfl)
theorem dX1_gateTold_9 : decode cX1_gateTold 9 = .ok (.aload_n 1, 1) := dk_43 (dk_at dksX1_gateTold_0 9 rfl rfl)
theorem dX1_gateTold_10 : decode cX1_gateTold 10 = .ok (.getfield 558, 3) := dk_180 2 46 (dk_at dksX1_gateTold_0 10 rfl rfl)
theorem dX1_gateTold_13 : decode cX1_gateTold 13 = .ok (.iconst 2, 1) := dk_5 (dk_at dksX1_gateTold_0 13 rfl rfl)
theorem dX1_gateTold_14 : decode cX1_gateTold 14 = .ok (.irem, 1) := dk_112 (dk_at dksX1_gateTold_0 14 rfl rfl)
theorem dX1_gateTold_15 : decode cX1_gateTold 15 = .ok (.ifCond .ne 16, 3) := dk_154 0 16 (dk_at dksX1_gateTold_0 15 rfl rfl)
theorem dX1_gateTold_18 : decode cX1_gateTold 18 = .ok (.aload_n 1, 1) := dk_43 (dk_at dksX1_gateTold_0 18 rfl rfl)
theorem dX1_gateTold_19 : decode cX1_gateTold 19 = .ok (.getfield 558, 3) := dk_180 2 46 (dk_at dksX1_gateTold_0 19 rfl rfl)
theorem dX1_gateTold_22 : decode cX1_gateTold 22 = .ok (.bipush 40, 2) := dk_16 40 (dk_at dksX1_gateTold_0 22 rfl rfl)
theorem dX1_gateTold_24 : decode cX1_gateTold 24 = .ok (.if_icmp .gt 7, 3) := dk_163 0 7 (dk_at dksX1_gateTold_1 0 rfl rfl)
theorem dX1_gateTold_27 : decode cX1_gateTold 27 = .ok (.iconst 1, 1) := dk_4 (dk_at dksX1_gateTold_1 3 rfl rfl)
theorem dX1_gateTold_28 : decode cX1_gateTold 28 = .ok (.goto 4, 3) := dk_167 0 4 (dk_at dksX1_gateTold_1 4 rfl rfl)
theorem dX1_gateTold_31 : decode cX1_gateTold 31 = .ok (.iconst 0, 1) := dk_3 (dk_at dksX1_gateTold_1 7 rfl rfl)
theorem dX1_gateTold_32 : decode cX1_gateTold 32 = .ok (.invokestatic 498, 3) := dk_184 1 242 (dk_at dksX1_gateTold_1 8 rfl rfl)
theorem dX1_gateTold_35 : decode cX1_gateTold 35 = .ok (.iconst 0, 1) := dk_3 (dk_at dksX1_gateTold_1 11 rfl rfl)
theorem dX1_gateTold_36 : decode cX1_gateTold 36 = .ok (.istore_n 2, 1) := dk_61 (dk_at dksX1_gateTold_1 12 rfl rfl)
theorem dX1_gateTold_37 : decode cX1_gateTold 37 = .ok (.iload_n 2, 1) := dk_28 (dk_at dksX1_gateTold_1 13 rfl rfl)
theorem dX1_gateTold_38 : decode cX1_gateTold 38 = .ok (.aload_n 1, 1) := dk_43 (dk_at dksX1_gateTold_1 14 rfl rfl)
theorem dX1_gateTold_39 : decode cX1_gateTold 39 = .ok (.getfield 558, 3) := dk_180 2 46 (dk_at dksX1_gateTold_1 15 rfl rfl)
theorem dX1_gateTold_42 : decode cX1_gateTold 42 = .ok (.if_icmp .ge 48, 3) := dk_162 0 48 (dk_at dksX1_gateTold_1 18 rfl rfl)
theorem dX1_gateTold_45 : decode cX1_gateTold 45 = .ok (.aload_n 1, 1) := dk_43 (dk_at dksX1_gateTold_1 21 rfl rfl)
theorem dX1_gateTold_46 : decode cX1_gateTold 46 = .ok (.getfield 561, 3) := dk_180 2 49 (dk_at dksX1_gateTold_2 0 rfl rfl)
theorem dX1_gateTold_49 : decode cX1_gateTold 49 = .ok (.iload_n 2, 1) := dk_28 (dk_at dksX1_gateTold_2 3 rfl rfl)
theorem dX1_gateTold_50 : decode cX1_gateTold 50 = .ok (.baload, 1) := dk_51 (dk_at dksX1_gateTold_2 4 rfl rfl)
theorem dX1_gateTold_51 : decode cX1_gateTold 51 = .ok (.iconst 0, 1) := dk_3 (dk_at dksX1_gateTold_2 5 rfl rfl)
theorem dX1_gateTold_52 : decode cX1_gateTold 52 = .ok (.bipush 63, 2) := dk_16 63 (dk_at dksX1_gateTold_2 6 rfl rfl)
theorem dX1_gateTold_54 : decode cX1_gateTold 54 = .ok (.invokestatic 124, 3) := dk_184 0 124 (dk_at dksX1_gateTold_2 8 rfl rfl)
theorem dX1_gateTold_57 : decode cX1_gateTold 57 = .ok (.ifCond .eq 23, 3) := dk_153 0 23 (dk_at dksX1_gateTold_2 11 rfl rfl)
theorem dX1_gateTold_60 : decode cX1_gateTold 60 = .ok (.aload_n 1, 1) := dk_43 (dk_at dksX1_gateTold_2 14 rfl rfl)
theorem dX1_gateTold_61 : decode cX1_gateTold 61 = .ok (.getfield 561, 3) := dk_180 2 49 (dk_at dksX1_gateTold_2 15 rfl rfl)
theorem dX1_gateTold_64 : decode cX1_gateTold 64 = .ok (.iload_n 2, 1) := dk_28 (dk_at dksX1_gateTold_2 18 rfl rfl)
theorem dX1_gateTold_65 : decode cX1_gateTold 65 = .ok (.iconst 1, 1) := dk_4 (dk_at dksX1_gateTold_2 19 rfl rfl)
theorem dX1_gateTold_66 : decode cX1_gateTold 66 = .ok (.iadd, 1) := dk_96 (dk_at dksX1_gateTold_2 20 rfl rfl)
theorem dX1_gateTold_67 : decode cX1_gateTold 67 = .ok (.baload, 1) := dk_51 (dk_at dksX1_gateTold_2 21 rfl rfl)
theorem dX1_gateTold_68 : decode cX1_gateTold 68 = .ok (.iconst 0, 1) := dk_3 (dk_at dksX1_gateTold_2 22 rfl rfl)
theorem dX1_gateTold_69 : decode cX1_gateTold 69 = .ok (.iconst 1, 1) := dk_4 (dk_at dksX1_gateTold_2 23 rfl rfl)
theorem dX1_gateTold_70 : decode cX1_gateTold 70 = .ok (.invokestatic 124, 3) := dk_184 0 124 (dk_at dksX1_gateTold_3 0 rfl rfl)
theorem dX1_gateTold_73 : decode cX1_gateTold 73 = .ok (.ifCond .eq 7, 3) := dk_153 0 7 (dk_at dksX1_gateTold_3 3 rfl rfl)
theorem dX1_gateTold_76 : decode cX1_gateTold 76 = .ok (.iconst 1, 1) := dk_4 (dk_at dksX1_gateTold_3 6 rfl rfl)
theorem dX1_gateTold_77 : decode cX1_gateTold 77 = .ok (.goto 4, 3) := dk_167 0 4 (dk_at dksX1_gateTold_3 7 rfl rfl)
theorem dX1_gateTold_80 : decode cX1_gateTold 80 = .ok (.iconst 0, 1) := dk_3 (dk_at dksX1_gateTold_3 10 rfl rfl)
theorem dX1_gateTold_81 : decode cX1_gateTold 81 = .ok (.invokestatic 498, 3) := dk_184 1 242 (dk_at dksX1_gateTold_3 11 rfl rfl)
theorem dX1_gateTold_84 : decode cX1_gateTold 84 = .ok (.iinc 2 2, 3) := dk_132 2 2 (dk_at dksX1_gateTold_3 14 rfl rfl)
theorem dX1_gateTold_87 : decode cX1_gateTold 87 = .ok (.goto (-50), 3) := dk_167 255 206 (dk_at dksX1_gateTold_3 17 rfl rfl)
theorem dX1_gateTold_90 : decode cX1_gateTold 90 = .ok (.return_, 1) := dk_177 (dk_at dksX1_gateTold_3 20 rfl rfl)
abbrev cX1_laysRules : ByteArray := prog_1_method_79_code
def yX1_laysRules : MethodName := ⟨RX1, "laysRules", "()V"⟩
def dkwX1_laysRules_3 : List UInt8 := [120, 167, 0, 4, 3, 128, 79, 28, 6, 108, 61, 132, 3, 1, 167, 255, 197, 132, 1, 1, 167, 255, 166, 177]
abbrev dktX1_laysRules_3 : List UInt8 := dkwX1_laysRules_3 ++ []
def dkwX1_laysRules_2 : List UInt8 := [29, 120, 167, 0, 4, 3, 128, 79, 42, 180, 0, 65, 27, 92, 46, 28, 6, 112, 5, 160, 0, 9, 4, 29]
abbrev dktX1_laysRules_2 : List UInt8 := dkwX1_laysRules_2 ++ dktX1_laysRules_3
def dkwX1_laysRules_1 : List UInt8 := [61, 3, 62, 29, 16, 6, 162, 0, 59, 42, 180, 0, 62, 27, 92, 46, 28, 6, 112, 4, 160, 0, 9, 4]
abbrev dktX1_laysRules_1 : List UInt8 := dkwX1_laysRules_1 ++ dktX1_laysRules_2
def dkwX1_laysRules_0 : List UInt8 := [3, 60, 27, 17, 2, 217, 162, 0, 89, 42, 180, 0, 62, 27, 3, 79, 42, 180, 0, 65, 27, 3, 79, 27]
abbrev dktX1_laysRules_0 : List UInt8 := dkwX1_laysRules_0 ++ dktX1_laysRules_1
theorem dksX1_laysRules_0 : cX1_laysRules.data.toList.drop 0 = dktX1_laysRules_0 := by decide +kernel
theorem dksX1_laysRules_1 : cX1_laysRules.data.toList.drop 24 = dktX1_laysRules_1 := dk_seg dksX1_laysRules_0 24 rfl rfl
theorem dksX1_laysRules_2 : cX1_laysRules.data.toList.drop 48 = dktX1_laysRules_2 := dk_seg dksX1_laysRules_1 24 rfl rfl
theorem dksX1_laysRules_3 : cX1_laysRules.data.toList.drop 72 = dktX1_laysRules_3 := dk_seg dksX1_laysRules_2 24 rfl rfl
theorem dX1_laysRules_0 : decode cX1_laysRules 0 = .ok (.iconst 0, 1) := dk_3 (dk_at dksX1_laysRules_0 0 rfl rfl)
theorem dX1_laysRules_1 : decode cX1_laysRules 1 = .ok (.istore_n 1, 1) := dk_60 (dk_at dksX1_laysRules_0 1 rfl rfl)
theorem dX1_laysRules_2 : decode cX1_laysRules 2 = .ok (.iload_n 1, 1) := dk_27 (dk_at dksX1_laysRules_0 2 rfl rfl)
theorem dX1_laysRules_3 : decode cX1_laysRules 3 = .ok (.sipush 729, 3) := dk_17 2 217 (dk_at dksX1_laysRules_0 3 rfl rfl)
theorem dX1_laysRules_6 : decode cX1_laysRules 6 = .ok (.if_icmp .ge 89, 3) := dk_162 0 89 (dk_at dksX1_laysRules_0 6 rfl rfl)
theorem dX1_laysRules_9 : decode cX1_laysRules 9 = .ok (.aload_n 0, 1) := dk_42 (dk_at dksX1_laysRules_0 9 rfl rfl)
theorem dX1_laysRules_10 : decode cX1_laysRules 10 = .ok (.getfield 62, 3) := dk_180 0 62 (dk_at dksX1_laysRules_0 10 rfl rfl)
theorem dX1_laysRules_13 : decode cX1_laysRules 13 = .ok (.iload_n 1, 1) := dk_27 (dk_at dksX1_laysRules_0 13 rfl rfl)
theorem dX1_laysRules_14 : decode cX1_laysRules 14 = .ok (.iconst 0, 1) := dk_3 (dk_at dksX1_laysRules_0 14 rfl rfl)
theorem dX1_laysRules_15 : decode cX1_laysRules 15 = .ok (.iastore, 1) := dk_79 (dk_at dksX1_laysRules_0 15 rfl rfl)
theorem dX1_laysRules_16 : decode cX1_laysRules 16 = .ok (.aload_n 0, 1) := dk_42 (dk_at dksX1_laysRules_0 16 rfl rfl)
theorem dX1_laysRules_17 : decode cX1_laysRules 17 = .ok (.getfield 65, 3) := dk_180 0 65 (dk_at dksX1_laysRules_0 17 rfl rfl)
theorem dX1_laysRules_20 : decode cX1_laysRules 20 = .ok (.iload_n 1, 1) := dk_27 (dk_at dksX1_laysRules_0 20 rfl rfl)
theorem dX1_laysRules_21 : decode cX1_laysRules 21 = .ok (.iconst 0, 1) := dk_3 (dk_at dksX1_laysRules_0 21 rfl rfl)
theorem dX1_laysRules_22 : decode cX1_laysRules 22 = .ok (.iastore, 1) := dk_79 (dk_at dksX1_laysRules_0 22 rfl rfl)
theorem dX1_laysRules_23 : decode cX1_laysRules 23 = .ok (.iload_n 1, 1) := dk_27 (dk_at dksX1_laysRules_0 23 rfl rfl)
theorem dX1_laysRules_24 : decode cX1_laysRules 24 = .ok (.istore_n 2, 1) := dk_61 (dk_at dksX1_laysRules_1 0 rfl rfl)
theorem dX1_laysRules_25 : decode cX1_laysRules 25 = .ok (.iconst 0, 1) := dk_3 (dk_at dksX1_laysRules_1 1 rfl rfl)
theorem dX1_laysRules_26 : decode cX1_laysRules 26 = .ok (.istore_n 3, 1) := dk_62 (dk_at dksX1_laysRules_1 2 rfl rfl)
theorem dX1_laysRules_27 : decode cX1_laysRules 27 = .ok (.iload_n 3, 1) := dk_29 (dk_at dksX1_laysRules_1 3 rfl rfl)
theorem dX1_laysRules_28 : decode cX1_laysRules 28 = .ok (.bipush 6, 2) := dk_16 6 (dk_at dksX1_laysRules_1 4 rfl rfl)
theorem dX1_laysRules_30 : decode cX1_laysRules 30 = .ok (.if_icmp .ge 59, 3) := dk_162 0 59 (dk_at dksX1_laysRules_1 6 rfl rfl)
theorem dX1_laysRules_33 : decode cX1_laysRules 33 = .ok (.aload_n 0, 1) := dk_42 (dk_at dksX1_laysRules_1 9 rfl rfl)
theorem dX1_laysRules_34 : decode cX1_laysRules 34 = .ok (.getfield 62, 3) := dk_180 0 62 (dk_at dksX1_laysRules_1 10 rfl rfl)
theorem dX1_laysRules_37 : decode cX1_laysRules 37 = .ok (.iload_n 1, 1) := dk_27 (dk_at dksX1_laysRules_1 13 rfl rfl)
theorem dX1_laysRules_38 : decode cX1_laysRules 38 = .ok (.dup2, 1) := dk_92 (dk_at dksX1_laysRules_1 14 rfl rfl)
theorem dX1_laysRules_39 : decode cX1_laysRules 39 = .ok (.iaload, 1) := dk_46 (dk_at dksX1_laysRules_1 15 rfl rfl)
theorem dX1_laysRules_40 : decode cX1_laysRules 40 = .ok (.iload_n 2, 1) := dk_28 (dk_at dksX1_laysRules_1 16 rfl rfl)
theorem dX1_laysRules_41 : decode cX1_laysRules 41 = .ok (.iconst 3, 1) := dk_6 (dk_at dksX1_laysRules_1 17 rfl rfl)
theorem dX1_laysRules_42 : decode cX1_laysRules 42 = .ok (.irem, 1) := dk_112 (dk_at dksX1_laysRules_1 18 rfl rfl)
theorem dX1_laysRules_43 : decode cX1_laysRules 43 = .ok (.iconst 1, 1) := dk_4 (dk_at dksX1_laysRules_1 19 rfl rfl)
theorem dX1_laysRules_44 : decode cX1_laysRules 44 = .ok (.if_icmp .ne 9, 3) := dk_160 0 9 (dk_at dksX1_laysRules_1 20 rfl rfl)
theorem dX1_laysRules_47 : decode cX1_laysRules 47 = .ok (.iconst 1, 1) := dk_4 (dk_at dksX1_laysRules_1 23 rfl rfl)
theorem dX1_laysRules_48 : decode cX1_laysRules 48 = .ok (.iload_n 3, 1) := dk_29 (dk_at dksX1_laysRules_2 0 rfl rfl)
theorem dX1_laysRules_49 : decode cX1_laysRules 49 = .ok (.ishl, 1) := dk_120 (dk_at dksX1_laysRules_2 1 rfl rfl)
theorem dX1_laysRules_50 : decode cX1_laysRules 50 = .ok (.goto 4, 3) := dk_167 0 4 (dk_at dksX1_laysRules_2 2 rfl rfl)
theorem dX1_laysRules_53 : decode cX1_laysRules 53 = .ok (.iconst 0, 1) := dk_3 (dk_at dksX1_laysRules_2 5 rfl rfl)
theorem dX1_laysRules_54 : decode cX1_laysRules 54 = .ok (.ior, 1) := dk_128 (dk_at dksX1_laysRules_2 6 rfl rfl)
theorem dX1_laysRules_55 : decode cX1_laysRules 55 = .ok (.iastore, 1) := dk_79 (dk_at dksX1_laysRules_2 7 rfl rfl)
theorem dX1_laysRules_56 : decode cX1_laysRules 56 = .ok (.aload_n 0, 1) := dk_42 (dk_at dksX1_laysRules_2 8 rfl rfl)
theorem dX1_laysRules_57 : decode cX1_laysRules 57 = .ok (.getfield 65, 3) := dk_180 0 65 (dk_at dksX1_laysRules_2 9 rfl rfl)
theorem dX1_laysRules_60 : decode cX1_laysRules 60 = .ok (.iload_n 1, 1) := dk_27 (dk_at dksX1_laysRules_2 12 rfl rfl)
theorem dX1_laysRules_61 : decode cX1_laysRules 61 = .ok (.dup2, 1) := dk_92 (dk_at dksX1_laysRules_2 13 rfl rfl)
theorem dX1_laysRules_62 : decode cX1_laysRules 62 = .ok (.iaload, 1) := dk_46 (dk_at dksX1_laysRules_2 14 rfl rfl)
theorem dX1_laysRules_63 : decode cX1_laysRules 63 = .ok (.iload_n 2, 1) := dk_28 (dk_at dksX1_laysRules_2 15 rfl rfl)
theorem dX1_laysRules_64 : decode cX1_laysRules 64 = .ok (.iconst 3, 1) := dk_6 (dk_at dksX1_laysRules_2 16 rfl rfl)
theorem dX1_laysRules_65 : decode cX1_laysRules 65 = .ok (.irem, 1) := dk_112 (dk_at dksX1_laysRules_2 17 rfl rfl)
theorem dX1_laysRules_66 : decode cX1_laysRules 66 = .ok (.iconst 2, 1) := dk_5 (dk_at dksX1_laysRules_2 18 rfl rfl)
theorem dX1_laysRules_67 : decode cX1_laysRules 67 = .ok (.if_icmp .ne 9, 3) := dk_160 0 9 (dk_at dksX1_laysRules_2 19 rfl rfl)
theorem dX1_laysRules_70 : decode cX1_laysRules 70 = .ok (.iconst 1, 1) := dk_4 (dk_at dksX1_laysRules_2 22 rfl rfl)
theorem dX1_laysRules_71 : decode cX1_laysRules 71 = .ok (.iload_n 3, 1) := dk_29 (dk_at dksX1_laysRules_2 23 rfl rfl)
theorem dX1_laysRules_72 : decode cX1_laysRules 72 = .ok (.ishl, 1) := dk_120 (dk_at dksX1_laysRules_3 0 rfl rfl)
theorem dX1_laysRules_73 : decode cX1_laysRules 73 = .ok (.goto 4, 3) := dk_167 0 4 (dk_at dksX1_laysRules_3 1 rfl rfl)
theorem dX1_laysRules_76 : decode cX1_laysRules 76 = .ok (.iconst 0, 1) := dk_3 (dk_at dksX1_laysRules_3 4 rfl rfl)
theorem dX1_laysRules_77 : decode cX1_laysRules 77 = .ok (.ior, 1) := dk_128 (dk_at dksX1_laysRules_3 5 rfl rfl)
theorem dX1_laysRules_78 : decode cX1_laysRules 78 = .ok (.iastore, 1) := dk_79 (dk_at dksX1_laysRules_3 6 rfl rfl)
theorem dX1_laysRules_79 : decode cX1_laysRules 79 = .ok (.iload_n 2, 1) := dk_28 (dk_at dksX1_laysRules_3 7 rfl rfl)
theorem dX1_laysRules_80 : decode cX1_laysRules 80 = .ok (.iconst 3, 1) := dk_6 (dk_at dksX1_laysRules_3 8 rfl rfl)
theorem dX1_laysRules_81 : decode cX1_laysRules 81 = .ok (.idiv, 1) := dk_108 (dk_at dksX1_laysRules_3 9 rfl rfl)
theorem dX1_laysRules_82 : decode cX1_laysRules 82 = .ok (.istore_n 2, 1) := dk_61 (dk_at dksX1_laysRules_3 10 rfl rfl)
theorem dX1_laysRules_83 : decode cX1_laysRules 83 = .ok (.iinc 3 1, 3) := dk_132 3 1 (dk_at dksX1_laysRules_3 11 rfl rfl)
theorem dX1_laysRules_86 : decode cX1_laysRules 86 = .ok (.goto (-59), 3) := dk_167 255 197 (dk_at dksX1_laysRules_3 14 rfl rfl)
theorem dX1_laysRules_89 : decode cX1_laysRules 89 = .ok (.iinc 1 1, 3) := dk_132 1 1 (dk_at dksX1_laysRules_3 17 rfl rfl)
theorem dX1_laysRules_92 : decode cX1_laysRules 92 = .ok (.goto (-90), 3) := dk_167 255 166 (dk_at dksX1_laysRules_3 20 rfl rfl)
theorem dX1_laysRules_95 : decode cX1_laysRules 95 = .ok (.return_, 1) := dk_177 (dk_at dksX1_laysRules_3 23 rfl rfl)
abbrev cX1_fits : ByteArray := prog_1_method_81_code
def yX1_fits : MethodName := ⟨RX1, "fits", "(I)Z"⟩
def dkwX1_fits_2 : List UInt8 := [172, 132, 3, 2, 167, 255, 212, 4, 172]
abbrev dktX1_fits_2 : List UInt8 := dkwX1_fits_2 ++ []
def dkwX1_fits_1 : List UInt8 := [182, 2, 91, 44, 180, 2, 49, 29, 4, 96, 51, 4, 160, 0, 7, 4, 167, 0, 4, 3, 159, 0, 5, 3]
abbrev dktX1_fits_1 : List UInt8 := dkwX1_fits_1 ++ dktX1_fits_2
def dkwX1_fits_0 : List UInt8 := [42, 180, 0, 25, 77, 3, 62, 29, 44, 180, 2, 46, 162, 0, 42, 42, 27, 44, 180, 2, 49, 29, 51]
abbrev dktX1_fits_0 : List UInt8 := dkwX1_fits_0 ++ dktX1_fits_1
theorem dksX1_fits_0 : cX1_fits.data.toList.drop 0 = dktX1_fits_0 := by decide +kernel
theorem dksX1_fits_1 : cX1_fits.data.toList.drop 23 = dktX1_fits_1 := dk_seg dksX1_fits_0 23 rfl rfl
theorem dksX1_fits_2 : cX1_fits.data.toList.drop 47 = dktX1_fits_2 := dk_seg dksX1_fits_1 24 rfl rfl
theorem dX1_fits_0 : decode cX1_fits 0 = .ok (.aload_n 0, 1) := dk_42 (dk_at dksX1_fits_0 0 rfl rfl)
theorem dX1_fits_1 : decode cX1_fits 1 = .ok (.getfield 25, 3) := dk_180 0 25 (dk_at dksX1_fits_0 1 rfl rfl)
theorem dX1_fits_4 : decode cX1_fits 4 = .ok (.astore_n 2, 1) := dk_77 (dk_at dksX1_fits_0 4 rfl rfl)
theorem dX1_fits_5 : decode cX1_fits 5 = .ok (.iconst 0, 1) := dk_3 (dk_at dksX1_fits_0 5 rfl rfl)
theorem dX1_fits_6 : decode cX1_fits 6 = .ok (.istore_n 3, 1) := dk_62 (dk_at dksX1_fits_0 6 rfl rfl)
theorem dX1_fits_7 : decode cX1_fits 7 = .ok (.iload_n 3, 1) := dk_29 (dk_at dksX1_fits_0 7 rfl rfl)
theorem dX1_fits_8 : decode cX1_fits 8 = .ok (.aload_n 2, 1) := dk_44 (dk_at dksX1_fits_0 8 rfl rfl)
theorem dX1_fits_9 : decode cX1_fits 9 = .ok (.getfield 558, 3) := dk_180 2 46 (dk_at dksX1_fits_0 9 rfl rfl)
theorem dX1_fits_12 : decode cX1_fits 12 = .ok (.if_icmp .ge 42, 3) := dk_162 0 42 (dk_at dksX1_fits_0 12 rfl rfl)
theorem dX1_fits_15 : decode cX1_fits 15 = .ok (.aload_n 0, 1) := dk_42 (dk_at dksX1_fits_0 15 rfl rfl)
theorem dX1_fits_16 : decode cX1_fits 16 = .ok (.iload_n 1, 1) := dk_27 (dk_at dksX1_fits_0 16 rfl rfl)
theorem dX1_fits_17 : decode cX1_fits 17 = .ok (.aload_n 2, 1) := dk_44 (dk_at dksX1_fits_0 17 rfl rfl)
theorem dX1_fits_18 : decode cX1_fits 18 = .ok (.getfield 561, 3) := dk_180 2 49 (dk_at dksX1_fits_0 18 rfl rfl)
theorem dX1_fits_21 : decode cX1_fits 21 = .ok (.iload_n 3, 1) := dk_29 (dk_at dksX1_fits_0 21 rfl rfl)
theorem dX1_fits_22 : decode cX1_fits 22 = .ok (.baload, 1) := dk_51 (dk_at dksX1_fits_0 22 rfl rfl)
theorem dX1_fits_23 : decode cX1_fits 23 = .ok (.invokevirtual 603, 3) := dk_182 2 91 (dk_at dksX1_fits_1 0 rfl rfl)
theorem dX1_fits_26 : decode cX1_fits 26 = .ok (.aload_n 2, 1) := dk_44 (dk_at dksX1_fits_1 3 rfl rfl)
theorem dX1_fits_27 : decode cX1_fits 27 = .ok (.getfield 561, 3) := dk_180 2 49 (dk_at dksX1_fits_1 4 rfl rfl)
theorem dX1_fits_30 : decode cX1_fits 30 = .ok (.iload_n 3, 1) := dk_29 (dk_at dksX1_fits_1 7 rfl rfl)
theorem dX1_fits_31 : decode cX1_fits 31 = .ok (.iconst 1, 1) := dk_4 (dk_at dksX1_fits_1 8 rfl rfl)
theorem dX1_fits_32 : decode cX1_fits 32 = .ok (.iadd, 1) := dk_96 (dk_at dksX1_fits_1 9 rfl rfl)
theorem dX1_fits_33 : decode cX1_fits 33 = .ok (.baload, 1) := dk_51 (dk_at dksX1_fits_1 10 rfl rfl)
theorem dX1_fits_34 : decode cX1_fits 34 = .ok (.iconst 1, 1) := dk_4 (dk_at dksX1_fits_1 11 rfl rfl)
theorem dX1_fits_35 : decode cX1_fits 35 = .ok (.if_icmp .ne 7, 3) := dk_160 0 7 (dk_at dksX1_fits_1 12 rfl rfl)
theorem dX1_fits_38 : decode cX1_fits 38 = .ok (.iconst 1, 1) := dk_4 (dk_at dksX1_fits_1 15 rfl rfl)
theorem dX1_fits_39 : decode cX1_fits 39 = .ok (.goto 4, 3) := dk_167 0 4 (dk_at dksX1_fits_1 16 rfl rfl)
theorem dX1_fits_42 : decode cX1_fits 42 = .ok (.iconst 0, 1) := dk_3 (dk_at dksX1_fits_1 19 rfl rfl)
theorem dX1_fits_43 : decode cX1_fits 43 = .ok (.if_icmp .eq 5, 3) := dk_159 0 5 (dk_at dksX1_fits_1 20 rfl rfl)
theorem dX1_fits_46 : decode cX1_fits 46 = .ok (.iconst 0, 1) := dk_3 (dk_at dksX1_fits_1 23 rfl rfl)
theorem dX1_fits_47 : decode cX1_fits 47 = .ok (.ireturn, 1) := dk_172 (dk_at dksX1_fits_2 0 rfl rfl)
theorem dX1_fits_48 : decode cX1_fits 48 = .ok (.iinc 3 2, 3) := dk_132 3 2 (dk_at dksX1_fits_2 1 rfl rfl)
theorem dX1_fits_51 : decode cX1_fits 51 = .ok (.goto (-44), 3) := dk_167 255 212 (dk_at dksX1_fits_2 4 rfl rfl)
theorem dX1_fits_54 : decode cX1_fits 54 = .ok (.iconst 1, 1) := dk_4 (dk_at dksX1_fits_2 7 rfl rfl)
theorem dX1_fits_55 : decode cX1_fits 55 = .ok (.ireturn, 1) := dk_172 (dk_at dksX1_fits_2 8 rfl rfl)
abbrev cX1_passes : ByteArray := prog_1_method_80_code
def yX1_passes : MethodName := ⟨RX1, "passes", "(II)Z"⟩
def dkwX1_passes_1 : List UInt8 := [126, 154, 0, 7, 4, 167, 0, 4, 3, 172]
abbrev dktX1_passes_1 : List UInt8 := dkwX1_passes_1 ++ []
def dkwX1_passes_0 : List UInt8 := [28, 42, 180, 0, 62, 27, 46, 126, 42, 180, 0, 62, 27, 46, 160, 0, 18, 28, 42, 180, 0, 65, 27, 46]
abbrev dktX1_passes_0 : List UInt8 := dkwX1_passes_0 ++ dktX1_passes_1
theorem dksX1_passes_0 : cX1_passes.data.toList.drop 0 = dktX1_passes_0 := by decide +kernel
theorem dksX1_passes_1 : cX1_passes.data.toList.drop 24 = dktX1_passes_1 := dk_seg dksX1_passes_0 24 rfl rfl
theorem dX1_passes_0 : decode cX1_passes 0 = .ok (.iload_n 2, 1) := dk_28 (dk_at dksX1_passes_0 0 rfl rfl)
theorem dX1_passes_1 : decode cX1_passes 1 = .ok (.aload_n 0, 1) := dk_42 (dk_at dksX1_passes_0 1 rfl rfl)
theorem dX1_passes_2 : decode cX1_passes 2 = .ok (.getfield 62, 3) := dk_180 0 62 (dk_at dksX1_passes_0 2 rfl rfl)
theorem dX1_passes_5 : decode cX1_passes 5 = .ok (.iload_n 1, 1) := dk_27 (dk_at dksX1_passes_0 5 rfl rfl)
theorem dX1_passes_6 : decode cX1_passes 6 = .ok (.iaload, 1) := dk_46 (dk_at dksX1_passes_0 6 rfl rfl)
theorem dX1_passes_7 : decode cX1_passes 7 = .ok (.iand, 1) := dk_126 (dk_at dksX1_passes_0 7 rfl rfl)
theorem dX1_passes_8 : decode cX1_passes 8 = .ok (.aload_n 0, 1) := dk_42 (dk_at dksX1_passes_0 8 rfl rfl)
theorem dX1_passes_9 : decode cX1_passes 9 = .ok (.getfield 62, 3) := dk_180 0 62 (dk_at dksX1_passes_0 9 rfl rfl)
theorem dX1_passes_12 : decode cX1_passes 12 = .ok (.iload_n 1, 1) := dk_27 (dk_at dksX1_passes_0 12 rfl rfl)
theorem dX1_passes_13 : decode cX1_passes 13 = .ok (.iaload, 1) := dk_46 (dk_at dksX1_passes_0 13 rfl rfl)
theorem dX1_passes_14 : decode cX1_passes 14 = .ok (.if_icmp .ne 18, 3) := dk_160 0 18 (dk_at dksX1_passes_0 14 rfl rfl)
theorem dX1_passes_17 : decode cX1_passes 17 = .ok (.iload_n 2, 1) := dk_28 (dk_at dksX1_passes_0 17 rfl rfl)
theorem dX1_passes_18 : decode cX1_passes 18 = .ok (.aload_n 0, 1) := dk_42 (dk_at dksX1_passes_0 18 rfl rfl)
theorem dX1_passes_19 : decode cX1_passes 19 = .ok (.getfield 65, 3) := dk_180 0 65 (dk_at dksX1_passes_0 19 rfl rfl)
theorem dX1_passes_22 : decode cX1_passes 22 = .ok (.iload_n 1, 1) := dk_27 (dk_at dksX1_passes_0 22 rfl rfl)
theorem dX1_passes_23 : decode cX1_passes 23 = .ok (.iaload, 1) := dk_46 (dk_at dksX1_passes_0 23 rfl rfl)
theorem dX1_passes_24 : decode cX1_passes 24 = .ok (.iand, 1) := dk_126 (dk_at dksX1_passes_1 0 rfl rfl)
theorem dX1_passes_25 : decode cX1_passes 25 = .ok (.ifCond .ne 7, 3) := dk_154 0 7 (dk_at dksX1_passes_1 1 rfl rfl)
theorem dX1_passes_28 : decode cX1_passes 28 = .ok (.iconst 1, 1) := dk_4 (dk_at dksX1_passes_1 4 rfl rfl)
theorem dX1_passes_29 : decode cX1_passes 29 = .ok (.goto 4, 3) := dk_167 0 4 (dk_at dksX1_passes_1 5 rfl rfl)
theorem dX1_passes_32 : decode cX1_passes 32 = .ok (.iconst 0, 1) := dk_3 (dk_at dksX1_passes_1 8 rfl rfl)
theorem dX1_passes_33 : decode cX1_passes 33 = .ok (.ireturn, 1) := dk_172 (dk_at dksX1_passes_1 9 rfl rfl)
abbrev cX1_send : ByteArray := prog_1_method_83_code
def yX1_send : MethodName := ⟨RX1, "send", "()I"⟩
def dkwX1_send_5 : List UInt8 := [167, 255, 160, 27, 172]
abbrev dktX1_send_5 : List UInt8 := dkwX1_send_5 ++ []
def dkwX1_send_4 : List UInt8 := [184, 2, 85, 28, 161, 0, 6, 167, 0, 13, 29, 60, 21, 4, 21, 5, 184, 2, 85, 61, 132, 3, 1]
abbrev dktX1_send_4 : List UInt8 := dkwX1_send_4 ++ dktX1_send_5
def dkwX1_send_3 : List UInt8 := [132, 5, 1, 132, 6, 1, 167, 255, 214, 21, 4, 21, 5, 96, 5, 161, 0, 27, 21, 4, 21, 5]
abbrev dktX1_send_3 : List UInt8 := dkwX1_send_3 ++ dktX1_send_4
def dkwX1_send_2 : List UInt8 := [154, 0, 6, 167, 0, 22, 42, 21, 6, 29, 182, 2, 91, 153, 0, 9, 132, 4, 1, 167, 0, 6]
abbrev dktX1_send_2 : List UInt8 := dkwX1_send_2 ++ dktX1_send_3
def dkwX1_send_1 : List UInt8 := [54, 4, 3, 54, 5, 3, 54, 6, 21, 6, 17, 2, 217, 162, 0, 40, 42, 21, 6, 182, 2, 99]
abbrev dktX1_send_1 : List UInt8 := dkwX1_send_1 ++ dktX1_send_2
def dkwX1_send_0 : List UInt8 := [42, 182, 2, 93, 42, 182, 2, 96, 2, 60, 19, 2, 65, 61, 3, 62, 29, 16, 64, 162, 0, 96, 3]
abbrev dktX1_send_0 : List UInt8 := dkwX1_send_0 ++ dktX1_send_1
theorem dksX1_send_0 : cX1_send.data.toList.drop 0 = dktX1_send_0 := by decide +kernel
theorem dksX1_send_1 : cX1_send.data.toList.drop 23 = dktX1_send_1 := dk_seg dksX1_send_0 23 rfl rfl
theorem dksX1_send_2 : cX1_send.data.toList.drop 45 = dktX1_send_2 := dk_seg dksX1_send_1 22 rfl rfl
theorem dksX1_send_3 : cX1_send.data.toList.drop 67 = dktX1_send_3 := dk_seg dksX1_send_2 22 rfl rfl
theorem dksX1_send_4 : cX1_send.data.toList.drop 89 = dktX1_send_4 := dk_seg dksX1_send_3 22 rfl rfl
theorem dksX1_send_5 : cX1_send.data.toList.drop 112 = dktX1_send_5 := dk_seg dksX1_send_4 23 rfl rfl
theorem dX1_send_0 : decode cX1_send 0 = .ok (.aload_n 0, 1) := dk_42 (dk_at dksX1_send_0 0 rfl rfl)
theorem dX1_send_1 : decode cX1_send 1 = .ok (.invokevirtual 605, 3) := dk_182 2 93 (dk_at dksX1_send_0 1 rfl rfl)
theorem dX1_send_4 : decode cX1_send 4 = .ok (.aload_n 0, 1) := dk_42 (dk_at dksX1_send_0 4 rfl rfl)
theorem dX1_send_5 : decode cX1_send 5 = .ok (.invokevirtual 608, 3) := dk_182 2 96 (dk_at dksX1_send_0 5 rfl rfl)
theorem dX1_send_8 : decode cX1_send 8 = .ok (.iconst (-1), 1) := dk_2 (dk_at dksX1_send_0 8 rfl rfl)
theorem dX1_send_9 : decode cX1_send 9 = .ok (.istore_n 1, 1) := dk_60 (dk_at dksX1_send_0 9 rfl rfl)
theorem dX1_send_10 : decode cX1_send 10 = .ok (.ldc_w 577, 3) := dk_19 2 65 (dk_at dksX1_send_0 10 rfl rfl)
theorem dX1_send_13 : decode cX1_send 13 = .ok (.istore_n 2, 1) := dk_61 (dk_at dksX1_send_0 13 rfl rfl)
theorem dX1_send_14 : decode cX1_send 14 = .ok (.iconst 0, 1) := dk_3 (dk_at dksX1_send_0 14 rfl rfl)
theorem dX1_send_15 : decode cX1_send 15 = .ok (.istore_n 3, 1) := dk_62 (dk_at dksX1_send_0 15 rfl rfl)
theorem dX1_send_16 : decode cX1_send 16 = .ok (.iload_n 3, 1) := dk_29 (dk_at dksX1_send_0 16 rfl rfl)
theorem dX1_send_17 : decode cX1_send 17 = .ok (.bipush 64, 2) := dk_16 64 (dk_at dksX1_send_0 17 rfl rfl)
theorem dX1_send_19 : decode cX1_send 19 = .ok (.if_icmp .ge 96, 3) := dk_162 0 96 (dk_at dksX1_send_0 19 rfl rfl)
theorem dX1_send_22 : decode cX1_send 22 = .ok (.iconst 0, 1) := dk_3 (dk_at dksX1_send_0 22 rfl rfl)
theorem dX1_send_23 : decode cX1_send 23 = .ok (.istore 4, 2) := dk_54 4 (dk_at dksX1_send_1 0 rfl rfl)
theorem dX1_send_25 : decode cX1_send 25 = .ok (.iconst 0, 1) := dk_3 (dk_at dksX1_send_1 2 rfl rfl)
theorem dX1_send_26 : decode cX1_send 26 = .ok (.istore 5, 2) := dk_54 5 (dk_at dksX1_send_1 3 rfl rfl)
theorem dX1_send_28 : decode cX1_send 28 = .ok (.iconst 0, 1) := dk_3 (dk_at dksX1_send_1 5 rfl rfl)
theorem dX1_send_29 : decode cX1_send 29 = .ok (.istore 6, 2) := dk_54 6 (dk_at dksX1_send_1 6 rfl rfl)
theorem dX1_send_31 : decode cX1_send 31 = .ok (.iload 6, 2) := dk_21 6 (dk_at dksX1_send_1 8 rfl rfl)
theorem dX1_send_33 : decode cX1_send 33 = .ok (.sipush 729, 3) := dk_17 2 217 (dk_at dksX1_send_1 10 rfl rfl)
theorem dX1_send_36 : decode cX1_send 36 = .ok (.if_icmp .ge 40, 3) := dk_162 0 40 (dk_at dksX1_send_1 13 rfl rfl)
theorem dX1_send_39 : decode cX1_send 39 = .ok (.aload_n 0, 1) := dk_42 (dk_at dksX1_send_1 16 rfl rfl)
theorem dX1_send_40 : decode cX1_send 40 = .ok (.iload 6, 2) := dk_21 6 (dk_at dksX1_send_1 17 rfl rfl)
theorem dX1_send_42 : decode cX1_send 42 = .ok (.invokevirtual 611, 3) := dk_182 2 99 (dk_at dksX1_send_1 19 rfl rfl)
theorem dX1_send_45 : decode cX1_send 45 = .ok (.ifCond .ne 6, 3) := dk_154 0 6 (dk_at dksX1_send_2 0 rfl rfl)
theorem dX1_send_48 : decode cX1_send 48 = .ok (.goto 22, 3) := dk_167 0 22 (dk_at dksX1_send_2 3 rfl rfl)
theorem dX1_send_51 : decode cX1_send 51 = .ok (.aload_n 0, 1) := dk_42 (dk_at dksX1_send_2 6 rfl rfl)
theorem dX1_send_52 : decode cX1_send 52 = .ok (.iload 6, 2) := dk_21 6 (dk_at dksX1_send_2 7 rfl rfl)
theorem dX1_send_54 : decode cX1_send 54 = .ok (.iload_n 3, 1) := dk_29 (dk_at dksX1_send_2 9 rfl rfl)
theorem dX1_send_55 : decode cX1_send 55 = .ok (.invokevirtual 603, 3) := dk_182 2 91 (dk_at dksX1_send_2 10 rfl rfl)
theorem dX1_send_58 : decode cX1_send 58 = .ok (.ifCond .eq 9, 3) := dk_153 0 9 (dk_at dksX1_send_2 13 rfl rfl)
theorem dX1_send_61 : decode cX1_send 61 = .ok (.iinc 4 1, 3) := dk_132 4 1 (dk_at dksX1_send_2 16 rfl rfl)
theorem dX1_send_64 : decode cX1_send 64 = .ok (.goto 6, 3) := dk_167 0 6 (dk_at dksX1_send_2 19 rfl rfl)
theorem dX1_send_67 : decode cX1_send 67 = .ok (.iinc 5 1, 3) := dk_132 5 1 (dk_at dksX1_send_3 0 rfl rfl)
theorem dX1_send_70 : decode cX1_send 70 = .ok (.iinc 6 1, 3) := dk_132 6 1 (dk_at dksX1_send_3 3 rfl rfl)
theorem dX1_send_73 : decode cX1_send 73 = .ok (.goto (-42), 3) := dk_167 255 214 (dk_at dksX1_send_3 6 rfl rfl)
theorem dX1_send_76 : decode cX1_send 76 = .ok (.iload 4, 2) := dk_21 4 (dk_at dksX1_send_3 9 rfl rfl)
theorem dX1_send_78 : decode cX1_send 78 = .ok (.iload 5, 2) := dk_21 5 (dk_at dksX1_send_3 11 rfl rfl)
theorem dX1_send_80 : decode cX1_send 80 = .ok (.iadd, 1) := dk_96 (dk_at dksX1_send_3 13 rfl rfl)
theorem dX1_send_81 : decode cX1_send 81 = .ok (.iconst 2, 1) := dk_5 (dk_at dksX1_send_3 14 rfl rfl)
theorem dX1_send_82 : decode cX1_send 82 = .ok (.if_icmp .lt 27, 3) := dk_161 0 27 (dk_at dksX1_send_3 15 rfl rfl)
theorem dX1_send_85 : decode cX1_send 85 = .ok (.iload 4, 2) := dk_21 4 (dk_at dksX1_send_3 18 rfl rfl)
theorem dX1_send_87 : decode cX1_send 87 = .ok (.iload 5, 2) := dk_21 5 (dk_at dksX1_send_3 20 rfl rfl)
theorem dX1_send_89 : decode cX1_send 89 = .ok (.invokestatic 597, 3) := dk_184 2 85 (dk_at dksX1_send_4 0 rfl rfl)
theorem dX1_send_92 : decode cX1_send 92 = .ok (.iload_n 2, 1) := dk_28 (dk_at dksX1_send_4 3 rfl rfl)
theorem dX1_send_93 : decode cX1_send 93 = .ok (.if_icmp .lt 6, 3) := dk_161 0 6 (dk_at dksX1_send_4 4 rfl rfl)
theorem dX1_send_96 : decode cX1_send 96 = .ok (.goto 13, 3) := dk_167 0 13 (dk_at dksX1_send_4 7 rfl rfl)
theorem dX1_send_99 : decode cX1_send 99 = .ok (.iload_n 3, 1) := dk_29 (dk_at dksX1_send_4 10 rfl rfl)
theorem dX1_send_100 : decode cX1_send 100 = .ok (.istore_n 1, 1) := dk_60 (dk_at dksX1_send_4 11 rfl rfl)
theorem dX1_send_101 : decode cX1_send 101 = .ok (.iload 4, 2) := dk_21 4 (dk_at dksX1_send_4 12 rfl rfl)
theorem dX1_send_103 : decode cX1_send 103 = .ok (.iload 5, 2) := dk_21 5 (dk_at dksX1_send_4 14 rfl rfl)
theorem dX1_send_105 : decode cX1_send 105 = .ok (.invokestatic 597, 3) := dk_184 2 85 (dk_at dksX1_send_4 16 rfl rfl)
theorem dX1_send_108 : decode cX1_send 108 = .ok (.istore_n 2, 1) := dk_61 (dk_at dksX1_send_4 19 rfl rfl)
theorem dX1_send_109 : decode cX1_send 109 = .ok (.iinc 3 1, 3) := dk_132 3 1 (dk_at dksX1_send_4 20 rfl rfl)
theorem dX1_send_112 : decode cX1_send 112 = .ok (.goto (-96), 3) := dk_167 255 160 (dk_at dksX1_send_5 0 rfl rfl)
theorem dX1_send_115 : decode cX1_send 115 = .ok (.iload_n 1, 1) := dk_27 (dk_at dksX1_send_5 3 rfl rfl)
theorem dX1_send_116 : decode cX1_send 116 = .ok (.ireturn, 1) := dk_172 (dk_at dksX1_send_5 4 rfl rfl)
abbrev cX1_hand : ByteArray := prog_1_method_85_code
def yX1_hand : MethodName := ⟨RX1, "hand", "(Z)I"⟩
def dkwX1_hand_7 : List UInt8 := [160, 0, 7, 3, 167, 0, 9, 42, 21, 4, 182, 2, 102, 172]
abbrev dktX1_hand_7 : List UInt8 := dkwX1_hand_7 ++ []
def dkwX1_hand_6 : List UInt8 := [21, 5, 54, 4, 132, 5, 1, 167, 255, 216, 27, 154, 0, 8, 21, 4, 167, 0, 19, 21, 4, 2]
abbrev dktX1_hand_6 : List UInt8 := dkwX1_hand_6 ++ dktX1_hand_7
def dkwX1_hand_5 : List UInt8 := [162, 0, 34, 21, 4, 2, 159, 0, 18, 42, 21, 5, 182, 2, 102, 42, 21, 4, 182, 2, 102, 162, 0, 7]
abbrev dktX1_hand_5 : List UInt8 := dkwX1_hand_5 ++ dktX1_hand_6
def dkwX1_hand_4 : List UInt8 := [128, 62, 132, 4, 1, 167, 255, 187, 2, 54, 4, 3, 54, 5, 21, 5, 42, 180, 0, 10, 180, 0, 132]
abbrev dktX1_hand_4 : List UInt8 := dkwX1_hand_4 ++ dktX1_hand_5
def dkwX1_hand_3 : List UInt8 := [184, 0, 128, 154, 0, 7, 4, 167, 0, 4, 3, 184, 1, 242, 29, 4, 44, 180, 2, 49, 21, 4, 51, 120]
abbrev dktX1_hand_3 : List UInt8 := dkwX1_hand_3 ++ dktX1_hand_4
def dkwX1_hand_2 : List UInt8 := [42, 180, 0, 10, 180, 0, 168, 4, 100, 184, 0, 124, 153, 0, 21, 29, 44, 180, 2, 49, 21, 4, 51]
abbrev dktX1_hand_2 : List UInt8 := dkwX1_hand_2 ++ dktX1_hand_3
def dkwX1_hand_1 : List UInt8 := [3, 184, 1, 242, 3, 54, 4, 21, 4, 44, 180, 2, 46, 162, 0, 66, 44, 180, 2, 49, 21, 4, 51, 3]
abbrev dktX1_hand_1 : List UInt8 := dkwX1_hand_1 ++ dktX1_hand_2
def dkwX1_hand_0 : List UInt8 := [42, 180, 0, 25, 77, 44, 182, 1, 0, 3, 62, 44, 180, 2, 46, 16, 8, 163, 0, 7, 4, 167, 0, 4]
abbrev dktX1_hand_0 : List UInt8 := dkwX1_hand_0 ++ dktX1_hand_1
theorem dksX1_hand_0 : cX1_hand.data.toList.drop 0 = dktX1_hand_0 := by decide +kernel
theorem dksX1_hand_1 : cX1_hand.data.toList.drop 24 = dktX1_hand_1 := dk_seg dksX1_hand_0 24 rfl rfl
theorem dksX1_hand_2 : cX1_hand.data.toList.drop 48 = dktX1_hand_2 := dk_seg dksX1_hand_1 24 rfl rfl
theorem dksX1_hand_3 : cX1_hand.data.toList.drop 71 = dktX1_hand_3 := dk_seg dksX1_hand_2 23 rfl rfl
theorem dksX1_hand_4 : cX1_hand.data.toList.drop 95 = dktX1_hand_4 := dk_seg dksX1_hand_3 24 rfl rfl
theorem dksX1_hand_5 : cX1_hand.data.toList.drop 118 = dktX1_hand_5 := dk_seg dksX1_hand_4 23 rfl rfl
theorem dksX1_hand_6 : cX1_hand.data.toList.drop 142 = dktX1_hand_6 := dk_seg dksX1_hand_5 24 rfl rfl
theorem dksX1_hand_7 : cX1_hand.data.toList.drop 164 = dktX1_hand_7 := dk_seg dksX1_hand_6 22 rfl rfl
theorem dX1_hand_0 : decode cX1_hand 0 = .ok (.aload_n 0, 1) := dk_42 (dk_at dksX1_hand_0 0 rfl rfl)
theorem dX1_hand_1 : decode cX1_hand 1 = .ok (.getfield 25, 3) := dk_180 0 25 (dk_at dksX1_hand_0 1 rfl rfl)
theorem dX1_hand_4 : decode cX1_hand 4 = .ok (.astore_n 2, 1) := dk_77 (dk_at dksX1_hand_0 4 rfl rfl)
theorem dX1_hand_5 : decode cX1_hand 5 = .ok (.aload_n 2, 1) := dk_44 (dk_at dksX1_hand_0 5 rfl rfl)
theorem dX1_hand_6 : decode cX1_hand 6 = .ok (.invokevirtual 256, 3) := dk_182 1 0 (dk_at dksX1_hand_0 6 rfl rfl)
theorem dX1_hand_9 : decode cX1_hand 9 = .ok (.iconst 0, 1) := dk_3 (dk_at dksX1_hand_0 9 rfl rfl)
theorem dX1_hand_10 : decode cX1_hand 10 = .ok (.istore_n 3, 1) := dk_62 (dk_at dksX1_hand_0 10 rfl rfl)
theorem dX1_hand_11 : decode cX1_hand 11 = .ok (.aload_n 2, 1) := dk_44 (dk_at dksX1_hand_0 11 rfl rfl)
theorem dX1_hand_12 : decode cX1_hand 12 = .ok (.getfield 558, 3) := dk_180 2 46 (dk_at dksX1_hand_0 12 rfl rfl)
theorem dX1_hand_15 : decode cX1_hand 15 = .ok (.bipush 8, 2) := dk_16 8 (dk_at dksX1_hand_0 15 rfl rfl)
theorem dX1_hand_17 : decode cX1_hand 17 = .ok (.if_icmp .gt 7, 3) := dk_163 0 7 (dk_at dksX1_hand_0 17 rfl rfl)
theorem dX1_hand_20 : decode cX1_hand 20 = .ok (.iconst 1, 1) := dk_4 (dk_at dksX1_hand_0 20 rfl rfl)
theorem dX1_hand_21 : decode cX1_hand 21 = .ok (.goto 4, 3) := dk_167 0 4 (dk_at dksX1_hand_0 21 rfl rfl)
theorem dX1_hand_24 : decode cX1_hand 24 = .ok (.iconst 0, 1) := dk_3 (dk_at dksX1_hand_1 0 rfl rfl)
theorem dX1_hand_25 : decode cX1_hand 25 = .ok (.invokestatic 498, 3) := dk_184 1 242 (dk_at dksX1_hand_1 1 rfl rfl)
theorem dX1_hand_28 : decode cX1_hand 28 = .ok (.iconst 0, 1) := dk_3 (dk_at dksX1_hand_1 4 rfl rfl)
theorem dX1_hand_29 : decode cX1_hand 29 = .ok (.istore 4, 2) := dk_54 4 (dk_at dksX1_hand_1 5 rfl rfl)
theorem dX1_hand_31 : decode cX1_hand 31 = .ok (.iload 4, 2) := dk_21 4 (dk_at dksX1_hand_1 7 rfl rfl)
theorem dX1_hand_33 : decode cX1_hand 33 = .ok (.aload_n 2, 1) := dk_44 (dk_at dksX1_hand_1 9 rfl rfl)
theorem dX1_hand_34 : decode cX1_hand 34 = .ok (.getfield 558, 3) := dk_180 2 46 (dk_at dksX1_hand_1 10 rfl rfl)
theorem dX1_hand_37 : decode cX1_hand 37 = .ok (.if_icmp .ge 66, 3) := dk_162 0 66 (dk_at dksX1_hand_1 13 rfl rfl)
theorem dX1_hand_40 : decode cX1_hand 40 = .ok (.aload_n 2, 1) := dk_44 (dk_at dksX1_hand_1 16 rfl rfl)
theorem dX1_hand_41 : decode cX1_hand 41 = .ok (.getfield 561, 3) := dk_180 2 49 (dk_at dksX1_hand_1 17 rfl rfl)
theorem dX1_hand_44 : decode cX1_hand 44 = .ok (.iload 4, 2) := dk_21 4 (dk_at dksX1_hand_1 20 rfl rfl)
theorem dX1_hand_46 : decode cX1_hand 46 = .ok (.baload, 1) := dk_51 (dk_at dksX1_hand_1 22 rfl rfl)
theorem dX1_hand_47 : decode cX1_hand 47 = .ok (.iconst 0, 1) := dk_3 (dk_at dksX1_hand_1 23 rfl rfl)
theorem dX1_hand_48 : decode cX1_hand 48 = .ok (.aload_n 0, 1) := dk_42 (dk_at dksX1_hand_2 0 rfl rfl)
theorem dX1_hand_49 : decode cX1_hand 49 = .ok (.getfield 10, 3) := dk_180 0 10 (dk_at dksX1_hand_2 1 rfl rfl)
theorem dX1_hand_52 : decode cX1_hand 52 = .ok (.getfield 168, 3) := dk_180 0 168 (dk_at dksX1_hand_2 4 rfl rfl)
theorem dX1_hand_55 : decode cX1_hand 55 = .ok (.iconst 1, 1) := dk_4 (dk_at dksX1_hand_2 7 rfl rfl)
theorem dX1_hand_56 : decode cX1_hand 56 = .ok (.isub, 1) := dk_100 (dk_at dksX1_hand_2 8 rfl rfl)
theorem dX1_hand_57 : decode cX1_hand 57 = .ok (.invokestatic 124, 3) := dk_184 0 124 (dk_at dksX1_hand_2 9 rfl rfl)
theorem dX1_hand_60 : decode cX1_hand 60 = .ok (.ifCond .eq 21, 3) := dk_153 0 21 (dk_at dksX1_hand_2 12 rfl rfl)
theorem dX1_hand_63 : decode cX1_hand 63 = .ok (.iload_n 3, 1) := dk_29 (dk_at dksX1_hand_2 15 rfl rfl)
theorem dX1_hand_64 : decode cX1_hand 64 = .ok (.aload_n 2, 1) := dk_44 (dk_at dksX1_hand_2 16 rfl rfl)
theorem dX1_hand_65 : decode cX1_hand 65 = .ok (.getfield 561, 3) := dk_180 2 49 (dk_at dksX1_hand_2 17 rfl rfl)
theorem dX1_hand_68 : decode cX1_hand 68 = .ok (.iload 4, 2) := dk_21 4 (dk_at dksX1_hand_2 20 rfl rfl)
theorem dX1_hand_70 : decode cX1_hand 70 = .ok (.baload, 1) := dk_51 (dk_at dksX1_hand_2 22 rfl rfl)
theorem dX1_hand_71 : decode cX1_hand 71 = .ok (.invokestatic 128, 3) := dk_184 0 128 (dk_at dksX1_hand_3 0 rfl rfl)
theorem dX1_hand_74 : decode cX1_hand 74 = .ok (.ifCond .ne 7, 3) := dk_154 0 7 (dk_at dksX1_hand_3 3 rfl rfl)
theorem dX1_hand_77 : decode cX1_hand 77 = .ok (.iconst 1, 1) := dk_4 (dk_at dksX1_hand_3 6 rfl rfl)
theorem dX1_hand_78 : decode cX1_hand 78 = .ok (.goto 4, 3) := dk_167 0 4 (dk_at dksX1_hand_3 7 rfl rfl)
theorem dX1_hand_81 : decode cX1_hand 81 = .ok (.iconst 0, 1) := dk_3 (dk_at dksX1_hand_3 10 rfl rfl)
theorem dX1_hand_82 : decode cX1_hand 82 = .ok (.invokestatic 498, 3) := dk_184 1 242 (dk_at dksX1_hand_3 11 rfl rfl)
theorem dX1_hand_85 : decode cX1_hand 85 = .ok (.iload_n 3, 1) := dk_29 (dk_at dksX1_hand_3 14 rfl rfl)
theorem dX1_hand_86 : decode cX1_hand 86 = .ok (.iconst 1, 1) := dk_4 (dk_at dksX1_hand_3 15 rfl rfl)
theorem dX1_hand_87 : decode cX1_hand 87 = .ok (.aload_n 2, 1) := dk_44 (dk_at dksX1_hand_3 16 rfl rfl)
theorem dX1_hand_88 : decode cX1_hand 88 = .ok (.getfield 561, 3) := dk_180 2 49 (dk_at dksX1_hand_3 17 rfl rfl)
theorem dX1_hand_91 : decode cX1_hand 91 = .ok (.iload 4, 2) := dk_21 4 (dk_at dksX1_hand_3 20 rfl rfl)
theorem dX1_hand_93 : decode cX1_hand 93 = .ok (.baload, 1) := dk_51 (dk_at dksX1_hand_3 22 rfl rfl)
theorem dX1_hand_94 : decode cX1_hand 94 = .ok (.ishl, 1) := dk_120 (dk_at dksX1_hand_3 23 rfl rfl)
theorem dX1_hand_95 : decode cX1_hand 95 = .ok (.ior, 1) := dk_128 (dk_at dksX1_hand_4 0 rfl rfl)
theorem dX1_hand_96 : decode cX1_hand 96 = .ok (.istore_n 3, 1) := dk_62 (dk_at dksX1_hand_4 1 rfl rfl)
theorem dX1_hand_97 : decode cX1_hand 97 = .ok (.iinc 4 1, 3) := dk_132 4 1 (dk_at dksX1_hand_4 2 rfl rfl)
theorem dX1_hand_100 : decode cX1_hand 100 = .ok (.goto (-69), 3) := dk_167 255 187 (dk_at dksX1_hand_4 5 rfl rfl)
theorem dX1_hand_103 : decode cX1_hand 103 = .ok (.iconst (-1), 1) := dk_2 (dk_at dksX1_hand_4 8 rfl rfl)
theorem dX1_hand_104 : decode cX1_hand 104 = .ok (.istore 4, 2) := dk_54 4 (dk_at dksX1_hand_4 9 rfl rfl)
theorem dX1_hand_106 : decode cX1_hand 106 = .ok (.iconst 0, 1) := dk_3 (dk_at dksX1_hand_4 11 rfl rfl)
theorem dX1_hand_107 : decode cX1_hand 107 = .ok (.istore 5, 2) := dk_54 5 (dk_at dksX1_hand_4 12 rfl rfl)
theorem dX1_hand_109 : decode cX1_hand 109 = .ok (.iload 5, 2) := dk_21 5 (dk_at dksX1_hand_4 14 rfl rfl)
theorem dX1_hand_111 : decode cX1_hand 111 = .ok (.aload_n 0, 1) := dk_42 (dk_at dksX1_hand_4 16 rfl rfl)
theorem dX1_hand_112 : decode cX1_hand 112 = .ok (.getfield 10, 3) := dk_180 0 10 (dk_at dksX1_hand_4 17 rfl rfl)
theorem dX1_hand_115 : decode cX1_hand 115 = .ok (.getfield 132, 3) := dk_180 0 132 (dk_at dksX1_hand_4 20 rfl rfl)
theorem dX1_hand_118 : decode cX1_hand 118 = .ok (.if_icmp .ge 34, 3) := dk_162 0 34 (dk_at dksX1_hand_5 0 rfl rfl)
theorem dX1_hand_121 : decode cX1_hand 121 = .ok (.iload 4, 2) := dk_21 4 (dk_at dksX1_hand_5 3 rfl rfl)
theorem dX1_hand_123 : decode cX1_hand 123 = .ok (.iconst (-1), 1) := dk_2 (dk_at dksX1_hand_5 5 rfl rfl)
theorem dX1_hand_124 : decode cX1_hand 124 = .ok (.if_icmp .eq 18, 3) := dk_159 0 18 (dk_at dksX1_hand_5 6 rfl rfl)
theorem dX1_hand_127 : decode cX1_hand 127 = .ok (.aload_n 0, 1) := dk_42 (dk_at dksX1_hand_5 9 rfl rfl)
theorem dX1_hand_128 : decode cX1_hand 128 = .ok (.iload 5, 2) := dk_21 5 (dk_at dksX1_hand_5 10 rfl rfl)
theorem dX1_hand_130 : decode cX1_hand 130 = .ok (.invokevirtual 614, 3) := dk_182 2 102 (dk_at dksX1_hand_5 12 rfl rfl)
theorem dX1_hand_133 : decode cX1_hand 133 = .ok (.aload_n 0, 1) := dk_42 (dk_at dksX1_hand_5 15 rfl rfl)
theorem dX1_hand_134 : decode cX1_hand 134 = .ok (.iload 4, 2) := dk_21 4 (dk_at dksX1_hand_5 16 rfl rfl)
theorem dX1_hand_136 : decode cX1_hand 136 = .ok (.invokevirtual 614, 3) := dk_182 2 102 (dk_at dksX1_hand_5 18 rfl rfl)
theorem dX1_hand_139 : decode cX1_hand 139 = .ok (.if_icmp .ge 7, 3) := dk_162 0 7 (dk_at dksX1_hand_5 21 rfl rfl)
theorem dX1_hand_142 : decode cX1_hand 142 = .ok (.iload 5, 2) := dk_21 5 (dk_at dksX1_hand_6 0 rfl rfl)
theorem dX1_hand_144 : decode cX1_hand 144 = .ok (.istore 4, 2) := dk_54 4 (dk_at dksX1_hand_6 2 rfl rfl)
theorem dX1_hand_146 : decode cX1_hand 146 = .ok (.iinc 5 1, 3) := dk_132 5 1 (dk_at dksX1_hand_6 4 rfl rfl)
theorem dX1_hand_149 : decode cX1_hand 149 = .ok (.goto (-40), 3) := dk_167 255 216 (dk_at dksX1_hand_6 7 rfl rfl)
theorem dX1_hand_152 : decode cX1_hand 152 = .ok (.iload_n 1, 1) := dk_27 (dk_at dksX1_hand_6 10 rfl rfl)
theorem dX1_hand_153 : decode cX1_hand 153 = .ok (.ifCond .ne 8, 3) := dk_154 0 8 (dk_at dksX1_hand_6 11 rfl rfl)
theorem dX1_hand_156 : decode cX1_hand 156 = .ok (.iload 4, 2) := dk_21 4 (dk_at dksX1_hand_6 14 rfl rfl)
theorem dX1_hand_158 : decode cX1_hand 158 = .ok (.goto 19, 3) := dk_167 0 19 (dk_at dksX1_hand_6 16 rfl rfl)
theorem dX1_hand_161 : decode cX1_hand 161 = .ok (.iload 4, 2) := dk_21 4 (dk_at dksX1_hand_6 19 rfl rfl)
theorem dX1_hand_163 : decode cX1_hand 163 = .ok (.iconst (-1), 1) := dk_2 (dk_at dksX1_hand_6 21 rfl rfl)
theorem dX1_hand_164 : decode cX1_hand 164 = .ok (.if_icmp .ne 7, 3) := dk_160 0 7 (dk_at dksX1_hand_7 0 rfl rfl)
theorem dX1_hand_167 : decode cX1_hand 167 = .ok (.iconst 0, 1) := dk_3 (dk_at dksX1_hand_7 3 rfl rfl)
theorem dX1_hand_168 : decode cX1_hand 168 = .ok (.goto 9, 3) := dk_167 0 9 (dk_at dksX1_hand_7 4 rfl rfl)
theorem dX1_hand_171 : decode cX1_hand 171 = .ok (.aload_n 0, 1) := dk_42 (dk_at dksX1_hand_7 7 rfl rfl)
theorem dX1_hand_172 : decode cX1_hand 172 = .ok (.iload 4, 2) := dk_21 4 (dk_at dksX1_hand_7 8 rfl rfl)
theorem dX1_hand_174 : decode cX1_hand 174 = .ok (.invokevirtual 614, 3) := dk_182 2 102 (dk_at dksX1_hand_7 10 rfl rfl)
theorem dX1_hand_177 : decode cX1_hand 177 = .ok (.ireturn, 1) := dk_172 (dk_at dksX1_hand_7 13 rfl rfl)
abbrev cX1_wrongOrders : ByteArray := prog_1_method_84_code
def yX1_wrongOrders : MethodName := ⟨RX1, "wrongOrders", "(I)I"⟩
def dkwX1_wrongOrders_3 : List UInt8 := [162, 0, 7, 4, 167, 0, 4, 3, 96, 62, 132, 5, 1, 167, 255, 199, 132, 4, 1, 167, 255, 178, 29, 172]
abbrev dktX1_wrongOrders_3 : List UInt8 := dkwX1_wrongOrders_3 ++ []
def dkwX1_wrongOrders_2 : List UInt8 := [180, 2, 49, 21, 4, 51, 46, 42, 180, 0, 10, 180, 0, 155, 27, 50, 44, 180, 2, 49, 21, 5, 51, 46]
abbrev dktX1_wrongOrders_2 : List UInt8 := dkwX1_wrongOrders_2 ++ dktX1_wrongOrders_3
def dkwX1_wrongOrders_1 : List UInt8 := [54, 5, 21, 5, 44, 180, 2, 46, 162, 0, 54, 29, 42, 180, 0, 10, 180, 0, 155, 27, 50, 44]
abbrev dktX1_wrongOrders_1 : List UInt8 := dkwX1_wrongOrders_1 ++ dktX1_wrongOrders_2
def dkwX1_wrongOrders_0 : List UInt8 := [42, 180, 0, 25, 77, 3, 62, 3, 54, 4, 21, 4, 44, 180, 2, 46, 162, 0, 75, 21, 4, 4, 96]
abbrev dktX1_wrongOrders_0 : List UInt8 := dkwX1_wrongOrders_0 ++ dktX1_wrongOrders_1
theorem dksX1_wrongOrders_0 : cX1_wrongOrders.data.toList.drop 0 = dktX1_wrongOrders_0 := by decide +kernel
theorem dksX1_wrongOrders_1 : cX1_wrongOrders.data.toList.drop 23 = dktX1_wrongOrders_1 := dk_seg dksX1_wrongOrders_0 23 rfl rfl
theorem dksX1_wrongOrders_2 : cX1_wrongOrders.data.toList.drop 45 = dktX1_wrongOrders_2 := dk_seg dksX1_wrongOrders_1 22 rfl rfl
theorem dksX1_wrongOrders_3 : cX1_wrongOrders.data.toList.drop 69 = dktX1_wrongOrders_3 := dk_seg dksX1_wrongOrders_2 24 rfl rfl
theorem dX1_wrongOrders_0 : decode cX1_wrongOrders 0 = .ok (.aload_n 0, 1) := dk_42 (dk_at dksX1_wrongOrders_0 0 rfl rfl)
theorem dX1_wrongOrders_1 : decode cX1_wrongOrders 1 = .ok (.getfield 25, 3) := dk_180 0 25 (dk_at dksX1_wrongOrders_0 1 rfl rfl)
theorem dX1_wrongOrders_4 : decode cX1_wrongOrders 4 = .ok (.astore_n 2, 1) := dk_77 (dk_at dksX1_wrongOrders_0 4 rfl rfl)
theorem dX1_wrongOrders_5 : decode cX1_wrongOrders 5 = .ok (.iconst 0, 1) := dk_3 (dk_at dksX1_wrongOrders_0 5 rfl rfl)
theorem dX1_wrongOrders_6 : decode cX1_wrongOrders 6 = .ok (.istore_n 3, 1) := dk_62 (dk_at dksX1_wrongOrders_0 6 rfl rfl)
theorem dX1_wrongOrders_7 : decode cX1_wrongOrders 7 = .ok (.iconst 0, 1) := dk_3 (dk_at dksX1_wrongOrders_0 7 rfl rfl)
theorem dX1_wrongOrders_8 : decode cX1_wrongOrders 8 = .ok (.istore 4, 2) := dk_54 4 (dk_at dksX1_wrongOrders_0 8 rfl rfl)
theorem dX1_wrongOrders_10 : decode cX1_wrongOrders 10 = .ok (.iload 4, 2) := dk_21 4 (dk_at dksX1_wrongOrders_0 10 rfl rfl)
theorem dX1_wrongOrders_12 : decode cX1_wrongOrders 12 = .ok (.aload_n 2, 1) := dk_44 (dk_at dksX1_wrongOrders_0 12 rfl rfl)
theorem dX1_wrongOrders_13 : decode cX1_wrongOrders 13 = .ok (.getfield 558, 3) := dk_180 2 46 (dk_at dksX1_wrongOrders_0 13 rfl rfl)
theorem dX1_wrongOrders_16 : decode cX1_wrongOrders 16 = .ok (.if_icmp .ge 75, 3) := dk_162 0 75 (dk_at dksX1_wrongOrders_0 16 rfl rfl)
theorem dX1_wrongOrders_19 : decode cX1_wrongOrders 19 = .ok (.iload 4, 2) := dk_21 4 (dk_at dksX1_wrongOrders_0 19 rfl rfl)
theorem dX1_wrongOrders_21 : decode cX1_wrongOrders 21 = .ok (.iconst 1, 1) := dk_4 (dk_at dksX1_wrongOrders_0 21 rfl rfl)
theorem dX1_wrongOrders_22 : decode cX1_wrongOrders 22 = .ok (.iadd, 1) := dk_96 (dk_at dksX1_wrongOrders_0 22 rfl rfl)
theorem dX1_wrongOrders_23 : decode cX1_wrongOrders 23 = .ok (.istore 5, 2) := dk_54 5 (dk_at dksX1_wrongOrders_1 0 rfl rfl)
theorem dX1_wrongOrders_25 : decode cX1_wrongOrders 25 = .ok (.iload 5, 2) := dk_21 5 (dk_at dksX1_wrongOrders_1 2 rfl rfl)
theorem dX1_wrongOrders_27 : decode cX1_wrongOrders 27 = .ok (.aload_n 2, 1) := dk_44 (dk_at dksX1_wrongOrders_1 4 rfl rfl)
theorem dX1_wrongOrders_28 : decode cX1_wrongOrders 28 = .ok (.getfield 558, 3) := dk_180 2 46 (dk_at dksX1_wrongOrders_1 5 rfl rfl)
theorem dX1_wrongOrders_31 : decode cX1_wrongOrders 31 = .ok (.if_icmp .ge 54, 3) := dk_162 0 54 (dk_at dksX1_wrongOrders_1 8 rfl rfl)
theorem dX1_wrongOrders_34 : decode cX1_wrongOrders 34 = .ok (.iload_n 3, 1) := dk_29 (dk_at dksX1_wrongOrders_1 11 rfl rfl)
theorem dX1_wrongOrders_35 : decode cX1_wrongOrders 35 = .ok (.aload_n 0, 1) := dk_42 (dk_at dksX1_wrongOrders_1 12 rfl rfl)
theorem dX1_wrongOrders_36 : decode cX1_wrongOrders 36 = .ok (.getfield 10, 3) := dk_180 0 10 (dk_at dksX1_wrongOrders_1 13 rfl rfl)
theorem dX1_wrongOrders_39 : decode cX1_wrongOrders 39 = .ok (.getfield 155, 3) := dk_180 0 155 (dk_at dksX1_wrongOrders_1 16 rfl rfl)
theorem dX1_wrongOrders_42 : decode cX1_wrongOrders 42 = .ok (.iload_n 1, 1) := dk_27 (dk_at dksX1_wrongOrders_1 19 rfl rfl)
theorem dX1_wrongOrders_43 : decode cX1_wrongOrders 43 = .ok (.aaload, 1) := dk_50 (dk_at dksX1_wrongOrders_1 20 rfl rfl)
theorem dX1_wrongOrders_44 : decode cX1_wrongOrders 44 = .ok (.aload_n 2, 1) := dk_44 (dk_at dksX1_wrongOrders_1 21 rfl rfl)
theorem dX1_wrongOrders_45 : decode cX1_wrongOrders 45 = .ok (.getfield 561, 3) := dk_180 2 49 (dk_at dksX1_wrongOrders_2 0 rfl rfl)
theorem dX1_wrongOrders_48 : decode cX1_wrongOrders 48 = .ok (.iload 4, 2) := dk_21 4 (dk_at dksX1_wrongOrders_2 3 rfl rfl)
theorem dX1_wrongOrders_50 : decode cX1_wrongOrders 50 = .ok (.baload, 1) := dk_51 (dk_at dksX1_wrongOrders_2 5 rfl rfl)
theorem dX1_wrongOrders_51 : decode cX1_wrongOrders 51 = .ok (.iaload, 1) := dk_46 (dk_at dksX1_wrongOrders_2 6 rfl rfl)
theorem dX1_wrongOrders_52 : decode cX1_wrongOrders 52 = .ok (.aload_n 0, 1) := dk_42 (dk_at dksX1_wrongOrders_2 7 rfl rfl)
theorem dX1_wrongOrders_53 : decode cX1_wrongOrders 53 = .ok (.getfield 10, 3) := dk_180 0 10 (dk_at dksX1_wrongOrders_2 8 rfl rfl)
theorem dX1_wrongOrders_56 : decode cX1_wrongOrders 56 = .ok (.getfield 155, 3) := dk_180 0 155 (dk_at dksX1_wrongOrders_2 11 rfl rfl)
theorem dX1_wrongOrders_59 : decode cX1_wrongOrders 59 = .ok (.iload_n 1, 1) := dk_27 (dk_at dksX1_wrongOrders_2 14 rfl rfl)
theorem dX1_wrongOrders_60 : decode cX1_wrongOrders 60 = .ok (.aaload, 1) := dk_50 (dk_at dksX1_wrongOrders_2 15 rfl rfl)
theorem dX1_wrongOrders_61 : decode cX1_wrongOrders 61 = .ok (.aload_n 2, 1) := dk_44 (dk_at dksX1_wrongOrders_2 16 rfl rfl)
theorem dX1_wrongOrders_62 : decode cX1_wrongOrders 62 = .ok (.getfield 561, 3) := dk_180 2 49 (dk_at dksX1_wrongOrders_2 17 rfl rfl)
theorem dX1_wrongOrders_65 : decode cX1_wrongOrders 65 = .ok (.iload 5, 2) := dk_21 5 (dk_at dksX1_wrongOrders_2 20 rfl rfl)
theorem dX1_wrongOrders_67 : decode cX1_wrongOrders 67 = .ok (.baload, 1) := dk_51 (dk_at dksX1_wrongOrders_2 22 rfl rfl)
theorem dX1_wrongOrders_68 : decode cX1_wrongOrders 68 = .ok (.iaload, 1) := dk_46 (dk_at dksX1_wrongOrders_2 23 rfl rfl)
theorem dX1_wrongOrders_69 : decode cX1_wrongOrders 69 = .ok (.if_icmp .ge 7, 3) := dk_162 0 7 (dk_at dksX1_wrongOrders_3 0 rfl rfl)
theorem dX1_wrongOrders_72 : decode cX1_wrongOrders 72 = .ok (.iconst 1, 1) := dk_4 (dk_at dksX1_wrongOrders_3 3 rfl rfl)
theorem dX1_wrongOrders_73 : decode cX1_wrongOrders 73 = .ok (.goto 4, 3) := dk_167 0 4 (dk_at dksX1_wrongOrders_3 4 rfl rfl)
theorem dX1_wrongOrders_76 : decode cX1_wrongOrders 76 = .ok (.iconst 0, 1) := dk_3 (dk_at dksX1_wrongOrders_3 7 rfl rfl)
theorem dX1_wrongOrders_77 : decode cX1_wrongOrders 77 = .ok (.iadd, 1) := dk_96 (dk_at dksX1_wrongOrders_3 8 rfl rfl)
theorem dX1_wrongOrders_78 : decode cX1_wrongOrders 78 = .ok (.istore_n 3, 1) := dk_62 (dk_at dksX1_wrongOrders_3 9 rfl rfl)
theorem dX1_wrongOrders_79 : decode cX1_wrongOrders 79 = .ok (.iinc 5 1, 3) := dk_132 5 1 (dk_at dksX1_wrongOrders_3 10 rfl rfl)
theorem dX1_wrongOrders_82 : decode cX1_wrongOrders 82 = .ok (.goto (-57), 3) := dk_167 255 199 (dk_at dksX1_wrongOrders_3 13 rfl rfl)
theorem dX1_wrongOrders_85 : decode cX1_wrongOrders 85 = .ok (.iinc 4 1, 3) := dk_132 4 1 (dk_at dksX1_wrongOrders_3 16 rfl rfl)
theorem dX1_wrongOrders_88 : decode cX1_wrongOrders 88 = .ok (.goto (-78), 3) := dk_167 255 178 (dk_at dksX1_wrongOrders_3 19 rfl rfl)
theorem dX1_wrongOrders_91 : decode cX1_wrongOrders 91 = .ok (.iload_n 3, 1) := dk_29 (dk_at dksX1_wrongOrders_3 22 rfl rfl)
theorem dX1_wrongOrders_92 : decode cX1_wrongOrders 92 = .ok (.ireturn, 1) := dk_172 (dk_at dksX1_wrongOrders_3 23 rfl rfl)
abbrev cX1_saved : ByteArray := prog_1_method_90_code
def yX1_saved : MethodName := ⟨RX1, "saved", "(II)I"⟩
def dkwX1_saved_0 : List UInt8 := [42, 27, 182, 1, 233, 42, 27, 3, 28, 3, 182, 2, 111, 172]
abbrev dktX1_saved_0 : List UInt8 := dkwX1_saved_0 ++ []
theorem dksX1_saved_0 : cX1_saved.data.toList.drop 0 = dktX1_saved_0 := by decide +kernel
theorem dX1_saved_0 : decode cX1_saved 0 = .ok (.aload_n 0, 1) := dk_42 (dk_at dksX1_saved_0 0 rfl rfl)
theorem dX1_saved_1 : decode cX1_saved 1 = .ok (.iload_n 1, 1) := dk_27 (dk_at dksX1_saved_0 1 rfl rfl)
theorem dX1_saved_2 : decode cX1_saved 2 = .ok (.invokevirtual 489, 3) := dk_182 1 233 (dk_at dksX1_saved_0 2 rfl rfl)
theorem dX1_saved_5 : decode cX1_saved 5 = .ok (.aload_n 0, 1) := dk_42 (dk_at dksX1_saved_0 5 rfl rfl)
theorem dX1_saved_6 : decode cX1_saved 6 = .ok (.iload_n 1, 1) := dk_27 (dk_at dksX1_saved_0 6 rfl rfl)
theorem dX1_saved_7 : decode cX1_saved 7 = .ok (.iconst 0, 1) := dk_3 (dk_at dksX1_saved_0 7 rfl rfl)
theorem dX1_saved_8 : decode cX1_saved 8 = .ok (.iload_n 2, 1) := dk_28 (dk_at dksX1_saved_0 8 rfl rfl)
theorem dX1_saved_9 : decode cX1_saved 9 = .ok (.iconst 0, 1) := dk_3 (dk_at dksX1_saved_0 9 rfl rfl)
theorem dX1_saved_10 : decode cX1_saved 10 = .ok (.invokevirtual 623, 3) := dk_182 2 111 (dk_at dksX1_saved_0 10 rfl rfl)
theorem dX1_saved_13 : decode cX1_saved 13 = .ok (.ireturn, 1) := dk_172 (dk_at dksX1_saved_0 13 rfl rfl)
abbrev cX1_savedFrom : ByteArray := prog_1_method_89_code
def yX1_savedFrom : MethodName := ⟨RX1, "savedFrom", "(IIII)I"⟩
def dkwX1_savedFrom_6 : List UInt8 := [167, 255, 211, 21, 5, 172]
abbrev dktX1_savedFrom_6 : List UInt8 := dkwX1_savedFrom_6 ++ []
def dkwX1_savedFrom_5 : List UInt8 := [28, 4, 96, 29, 21, 4, 4, 21, 8, 120, 128, 182, 2, 111, 96, 184, 2, 85, 54, 5, 132, 8, 1]
abbrev dktX1_savedFrom_5 : List UInt8 := dkwX1_savedFrom_5 ++ dktX1_savedFrom_6
def dkwX1_savedFrom_4 : List UInt8 := [54, 8, 21, 8, 16, 8, 162, 0, 44, 21, 7, 21, 8, 184, 0, 128, 153, 0, 28, 21, 5, 4, 42, 27]
abbrev dktX1_savedFrom_4 : List UInt8 := dkwX1_savedFrom_4 ++ dktX1_savedFrom_5
def dkwX1_savedFrom_3 : List UInt8 := [180, 0, 10, 21, 6, 182, 2, 4, 2, 130, 126, 29, 2, 130, 126, 21, 4, 2, 130, 126, 54, 7, 3]
abbrev dktX1_savedFrom_3 : List UInt8 := dkwX1_savedFrom_3 ++ dktX1_savedFrom_4
def dkwX1_savedFrom_2 : List UInt8 := [46, 54, 6, 42, 180, 0, 10, 27, 182, 1, 251, 42, 180, 0, 10, 180, 0, 175, 21, 6, 46, 126, 42]
abbrev dktX1_savedFrom_2 : List UInt8 := dkwX1_savedFrom_2 ++ dktX1_savedFrom_3
def dkwX1_savedFrom_1 : List UInt8 := [182, 2, 105, 126, 28, 184, 0, 128, 154, 0, 6, 21, 5, 172, 42, 180, 0, 10, 180, 1, 159, 27, 50, 28]
abbrev dktX1_savedFrom_1 : List UInt8 := dkwX1_savedFrom_1 ++ dktX1_savedFrom_2
def dkwX1_savedFrom_0 : List UInt8 := [28, 16, 8, 160, 0, 5, 3, 172, 42, 27, 28, 4, 96, 29, 21, 4, 182, 2, 111, 54, 5, 29, 42, 27]
abbrev dktX1_savedFrom_0 : List UInt8 := dkwX1_savedFrom_0 ++ dktX1_savedFrom_1
theorem dksX1_savedFrom_0 : cX1_savedFrom.data.toList.drop 0 = dktX1_savedFrom_0 := by decide +kernel
theorem dksX1_savedFrom_1 : cX1_savedFrom.data.toList.drop 24 = dktX1_savedFrom_1 := dk_seg dksX1_savedFrom_0 24 rfl rfl
theorem dksX1_savedFrom_2 : cX1_savedFrom.data.toList.drop 48 = dktX1_savedFrom_2 := dk_seg dksX1_savedFrom_1 24 rfl rfl
theorem dksX1_savedFrom_3 : cX1_savedFrom.data.toList.drop 71 = dktX1_savedFrom_3 := dk_seg dksX1_savedFrom_2 23 rfl rfl
theorem dksX1_savedFrom_4 : cX1_savedFrom.data.toList.drop 94 = dktX1_savedFrom_4 := dk_seg dksX1_savedFrom_3 23 rfl rfl
theorem dksX1_savedFrom_5 : cX1_savedFrom.data.toList.drop 118 = dktX1_savedFrom_5 := dk_seg dksX1_savedFrom_4 24 rfl rfl
theorem dksX1_savedFrom_6 : cX1_savedFrom.data.toList.drop 141 = dktX1_savedFrom_6 := dk_seg dksX1_savedFrom_5 23 rfl rfl
theorem dX1_savedFrom_0 : decode cX1_savedFrom 0 = .ok (.iload_n 2, 1) := dk_28 (dk_at dksX1_savedFrom_0 0 rfl rfl)
theorem dX1_savedFrom_1 : decode cX1_savedFrom 1 = .ok (.bipush 8, 2) := dk_16 8 (dk_at dksX1_savedFrom_0 1 rfl rfl)
theorem dX1_savedFrom_3 : decode cX1_savedFrom 3 = .ok (.if_icmp .ne 5, 3) := dk_160 0 5 (dk_at dksX1_savedFrom_0 3 rfl rfl)
theorem dX1_savedFrom_6 : decode cX1_savedFrom 6 = .ok (.iconst 0, 1) := dk_3 (dk_at dksX1_savedFrom_0 6 rfl rfl)
theorem dX1_savedFrom_7 : decode cX1_savedFrom 7 = .ok (.ireturn, 1) := dk_172 (dk_at dksX1_savedFrom_0 7 rfl rfl)
theorem dX1_savedFrom_8 : decode cX1_savedFrom 8 = .ok (.aload_n 0, 1) := dk_42 (dk_at dksX1_savedFrom_0 8 rfl rfl)
theorem dX1_savedFrom_9 : decode cX1_savedFrom 9 = .ok (.iload_n 1, 1) := dk_27 (dk_at dksX1_savedFrom_0 9 rfl rfl)
theorem dX1_savedFrom_10 : decode cX1_savedFrom 10 = .ok (.iload_n 2, 1) := dk_28 (dk_at dksX1_savedFrom_0 10 rfl rfl)
theorem dX1_savedFrom_11 : decode cX1_savedFrom 11 = .ok (.iconst 1, 1) := dk_4 (dk_at dksX1_savedFrom_0 11 rfl rfl)
theorem dX1_savedFrom_12 : decode cX1_savedFrom 12 = .ok (.iadd, 1) := dk_96 (dk_at dksX1_savedFrom_0 12 rfl rfl)
theorem dX1_savedFrom_13 : decode cX1_savedFrom 13 = .ok (.iload_n 3, 1) := dk_29 (dk_at dksX1_savedFrom_0 13 rfl rfl)
theorem dX1_savedFrom_14 : decode cX1_savedFrom 14 = .ok (.iload 4, 2) := dk_21 4 (dk_at dksX1_savedFrom_0 14 rfl rfl)
theorem dX1_savedFrom_16 : decode cX1_savedFrom 16 = .ok (.invokevirtual 623, 3) := dk_182 2 111 (dk_at dksX1_savedFrom_0 16 rfl rfl)
theorem dX1_savedFrom_19 : decode cX1_savedFrom 19 = .ok (.istore 5, 2) := dk_54 5 (dk_at dksX1_savedFrom_0 19 rfl rfl)
theorem dX1_savedFrom_21 : decode cX1_savedFrom 21 = .ok (.iload_n 3, 1) := dk_29 (dk_at dksX1_savedFrom_0 21 rfl rfl)
theorem dX1_savedFrom_22 : decode cX1_savedFrom 22 = .ok (.aload_n 0, 1) := dk_42 (dk_at dksX1_savedFrom_0 22 rfl rfl)
theorem dX1_savedFrom_23 : decode cX1_savedFrom 23 = .ok (.iload_n 1, 1) := dk_27 (dk_at dksX1_savedFrom_0 23 rfl rfl)
theorem dX1_savedFrom_24 : decode cX1_savedFrom 24 = .ok (.invokevirtual 617, 3) := dk_182 2 105 (dk_at dksX1_savedFrom_1 0 rfl rfl)
theorem dX1_savedFrom_27 : decode cX1_savedFrom 27 = .ok (.iand, 1) := dk_126 (dk_at dksX1_savedFrom_1 3 rfl rfl)
theorem dX1_savedFrom_28 : decode cX1_savedFrom 28 = .ok (.iload_n 2, 1) := dk_28 (dk_at dksX1_savedFrom_1 4 rfl rfl)
theorem dX1_savedFrom_29 : decode cX1_savedFrom 29 = .ok (.invokestatic 128, 3) := dk_184 0 128 (dk_at dksX1_savedFrom_1 5 rfl rfl)
theorem dX1_savedFrom_32 : decode cX1_savedFrom 32 = .ok (.ifCond .ne 6, 3) := dk_154 0 6 (dk_at dksX1_savedFrom_1 8 rfl rfl)
theorem dX1_savedFrom_35 : decode cX1_savedFrom 35 = .ok (.iload 5, 2) := dk_21 5 (dk_at dksX1_savedFrom_1 11 rfl rfl)
theorem dX1_savedFrom_37 : decode cX1_savedFrom 37 = .ok (.ireturn, 1) := dk_172 (dk_at dksX1_savedFrom_1 13 rfl rfl)
theorem dX1_savedFrom_38 : decode cX1_savedFrom 38 = .ok (.aload_n 0, 1) := dk_42 (dk_at dksX1_savedFrom_1 14 rfl rfl)
theorem dX1_savedFrom_39 : decode cX1_savedFrom 39 = .ok (.getfield 10, 3) := dk_180 0 10 (dk_at dksX1_savedFrom_1 15 rfl rfl)
theorem dX1_savedFrom_42 : decode cX1_savedFrom 42 = .ok (.getfield 415, 3) := dk_180 1 159 (dk_at dksX1_savedFrom_1 18 rfl rfl)
theorem dX1_savedFrom_45 : decode cX1_savedFrom 45 = .ok (.iload_n 1, 1) := dk_27 (dk_at dksX1_savedFrom_1 21 rfl rfl)
theorem dX1_savedFrom_46 : decode cX1_savedFrom 46 = .ok (.aaload, 1) := dk_50 (dk_at dksX1_savedFrom_1 22 rfl rfl)
theorem dX1_savedFrom_47 : decode cX1_savedFrom 47 = .ok (.iload_n 2, 1) := dk_28 (dk_at dksX1_savedFrom_1 23 rfl rfl)
theorem dX1_savedFrom_48 : decode cX1_savedFrom 48 = .ok (.iaload, 1) := dk_46 (dk_at dksX1_savedFrom_2 0 rfl rfl)
theorem dX1_savedFrom_49 : decode cX1_savedFrom 49 = .ok (.istore 6, 2) := dk_54 6 (dk_at dksX1_savedFrom_2 1 rfl rfl)
theorem dX1_savedFrom_51 : decode cX1_savedFrom 51 = .ok (.aload_n 0, 1) := dk_42 (dk_at dksX1_savedFrom_2 3 rfl rfl)
theorem dX1_savedFrom_52 : decode cX1_savedFrom 52 = .ok (.getfield 10, 3) := dk_180 0 10 (dk_at dksX1_savedFrom_2 4 rfl rfl)
theorem dX1_savedFrom_55 : decode cX1_savedFrom 55 = .ok (.iload_n 1, 1) := dk_27 (dk_at dksX1_savedFrom_2 7 rfl rfl)
theorem dX1_savedFrom_56 : decode cX1_savedFrom 56 = .ok (.invokevirtual 507, 3) := dk_182 1 251 (dk_at dksX1_savedFrom_2 8 rfl rfl)
theorem dX1_savedFrom_59 : decode cX1_savedFrom 59 = .ok (.aload_n 0, 1) := dk_42 (dk_at dksX1_savedFrom_2 11 rfl rfl)
theorem dX1_savedFrom_60 : decode cX1_savedFrom 60 = .ok (.getfield 10, 3) := dk_180 0 10 (dk_at dksX1_savedFrom_2 12 rfl rfl)
theorem dX1_savedFrom_63 : decode cX1_savedFrom 63 = .ok (.getfield 175, 3) := dk_180 0 175 (dk_at dksX1_savedFrom_2 15 rfl rfl)
theorem dX1_savedFrom_66 : decode cX1_savedFrom 66 = .ok (.iload 6, 2) := dk_21 6 (dk_at dksX1_savedFrom_2 18 rfl rfl)
theorem dX1_savedFrom_68 : decode cX1_savedFrom 68 = .ok (.iaload, 1) := dk_46 (dk_at dksX1_savedFrom_2 20 rfl rfl)
theorem dX1_savedFrom_69 : decode cX1_savedFrom 69 = .ok (.iand, 1) := dk_126 (dk_at dksX1_savedFrom_2 21 rfl rfl)
theorem dX1_savedFrom_70 : decode cX1_savedFrom 70 = .ok (.aload_n 0, 1) := dk_42 (dk_at dksX1_savedFrom_2 22 rfl rfl)
theorem dX1_savedFrom_71 : decode cX1_savedFrom 71 = .ok (.getfield 10, 3) := dk_180 0 10 (dk_at dksX1_savedFrom_3 0 rfl rfl)
theorem dX1_savedFrom_74 : decode cX1_savedFrom 74 = .ok (.iload 6, 2) := dk_21 6 (dk_at dksX1_savedFrom_3 3 rfl rfl)
theorem dX1_savedFrom_76 : decode cX1_savedFrom 76 = .ok (.invokevirtual 516, 3) := dk_182 2 4 (dk_at dksX1_savedFrom_3 5 rfl rfl)
theorem dX1_savedFrom_79 : decode cX1_savedFrom 79 = .ok (.iconst (-1), 1) := dk_2 (dk_at dksX1_savedFrom_3 8 rfl rfl)
theorem dX1_savedFrom_80 : decode cX1_savedFrom 80 = .ok (.ixor, 1) := dk_130 (dk_at dksX1_savedFrom_3 9 rfl rfl)
theorem dX1_savedFrom_81 : decode cX1_savedFrom 81 = .ok (.iand, 1) := dk_126 (dk_at dksX1_savedFrom_3 10 rfl rfl)
theorem dX1_savedFrom_82 : decode cX1_savedFrom 82 = .ok (.iload_n 3, 1) := dk_29 (dk_at dksX1_savedFrom_3 11 rfl rfl)
theorem dX1_savedFrom_83 : decode cX1_savedFrom 83 = .ok (.iconst (-1), 1) := dk_2 (dk_at dksX1_savedFrom_3 12 rfl rfl)
theorem dX1_savedFrom_84 : decode cX1_savedFrom 84 = .ok (.ixor, 1) := dk_130 (dk_at dksX1_savedFrom_3 13 rfl rfl)
theorem dX1_savedFrom_85 : decode cX1_savedFrom 85 = .ok (.iand, 1) := dk_126 (dk_at dksX1_savedFrom_3 14 rfl rfl)
theorem dX1_savedFrom_86 : decode cX1_savedFrom 86 = .ok (.iload 4, 2) := dk_21 4 (dk_at dksX1_savedFrom_3 15 rfl rfl)
theorem dX1_savedFrom_88 : decode cX1_savedFrom 88 = .ok (.iconst (-1), 1) := dk_2 (dk_at dksX1_savedFrom_3 17 rfl rfl)
theorem dX1_savedFrom_89 : decode cX1_savedFrom 89 = .ok (.ixor, 1) := dk_130 (dk_at dksX1_savedFrom_3 18 rfl rfl)
theorem dX1_savedFrom_90 : decode cX1_savedFrom 90 = .ok (.iand, 1) := dk_126 (dk_at dksX1_savedFrom_3 19 rfl rfl)
theorem dX1_savedFrom_91 : decode cX1_savedFrom 91 = .ok (.istore 7, 2) := dk_54 7 (dk_at dksX1_savedFrom_3 20 rfl rfl)
theorem dX1_savedFrom_93 : decode cX1_savedFrom 93 = .ok (.iconst 0, 1) := dk_3 (dk_at dksX1_savedFrom_3 22 rfl rfl)
theorem dX1_savedFrom_94 : decode cX1_savedFrom 94 = .ok (.istore 8, 2) := dk_54 8 (dk_at dksX1_savedFrom_4 0 rfl rfl)
theorem dX1_savedFrom_96 : decode cX1_savedFrom 96 = .ok (.iload 8, 2) := dk_21 8 (dk_at dksX1_savedFrom_4 2 rfl rfl)
theorem dX1_savedFrom_98 : decode cX1_savedFrom 98 = .ok (.bipush 8, 2) := dk_16 8 (dk_at dksX1_savedFrom_4 4 rfl rfl)
theorem dX1_savedFrom_100 : decode cX1_savedFrom 100 = .ok (.if_icmp .ge 44, 3) := dk_162 0 44 (dk_at dksX1_savedFrom_4 6 rfl rfl)
theorem dX1_savedFrom_103 : decode cX1_savedFrom 103 = .ok (.iload 7, 2) := dk_21 7 (dk_at dksX1_savedFrom_4 9 rfl rfl)
theorem dX1_savedFrom_105 : decode cX1_savedFrom 105 = .ok (.iload 8, 2) := dk_21 8 (dk_at dksX1_savedFrom_4 11 rfl rfl)
theorem dX1_savedFrom_107 : decode cX1_savedFrom 107 = .ok (.invokestatic 128, 3) := dk_184 0 128 (dk_at dksX1_savedFrom_4 13 rfl rfl)
theorem dX1_savedFrom_110 : decode cX1_savedFrom 110 = .ok (.ifCond .eq 28, 3) := dk_153 0 28 (dk_at dksX1_savedFrom_4 16 rfl rfl)
theorem dX1_savedFrom_113 : decode cX1_savedFrom 113 = .ok (.iload 5, 2) := dk_21 5 (dk_at dksX1_savedFrom_4 19 rfl rfl)
theorem dX1_savedFrom_115 : decode cX1_savedFrom 115 = .ok (.iconst 1, 1) := dk_4 (dk_at dksX1_savedFrom_4 21 rfl rfl)
theorem dX1_savedFrom_116 : decode cX1_savedFrom 116 = .ok (.aload_n 0, 1) := dk_42 (dk_at dksX1_savedFrom_4 22 rfl rfl)
theorem dX1_savedFrom_117 : decode cX1_savedFrom 117 = .ok (.iload_n 1, 1) := dk_27 (dk_at dksX1_savedFrom_4 23 rfl rfl)
theorem dX1_savedFrom_118 : decode cX1_savedFrom 118 = .ok (.iload_n 2, 1) := dk_28 (dk_at dksX1_savedFrom_5 0 rfl rfl)
theorem dX1_savedFrom_119 : decode cX1_savedFrom 119 = .ok (.iconst 1, 1) := dk_4 (dk_at dksX1_savedFrom_5 1 rfl rfl)
theorem dX1_savedFrom_120 : decode cX1_savedFrom 120 = .ok (.iadd, 1) := dk_96 (dk_at dksX1_savedFrom_5 2 rfl rfl)
theorem dX1_savedFrom_121 : decode cX1_savedFrom 121 = .ok (.iload_n 3, 1) := dk_29 (dk_at dksX1_savedFrom_5 3 rfl rfl)
theorem dX1_savedFrom_122 : decode cX1_savedFrom 122 = .ok (.iload 4, 2) := dk_21 4 (dk_at dksX1_savedFrom_5 4 rfl rfl)
theorem dX1_savedFrom_124 : decode cX1_savedFrom 124 = .ok (.iconst 1, 1) := dk_4 (dk_at dksX1_savedFrom_5 6 rfl rfl)
theorem dX1_savedFrom_125 : decode cX1_savedFrom 125 = .ok (.iload 8, 2) := dk_21 8 (dk_at dksX1_savedFrom_5 7 rfl rfl)
theorem dX1_savedFrom_127 : decode cX1_savedFrom 127 = .ok (.ishl, 1) := dk_120 (dk_at dksX1_savedFrom_5 9 rfl rfl)
theorem dX1_savedFrom_128 : decode cX1_savedFrom 128 = .ok (.ior, 1) := dk_128 (dk_at dksX1_savedFrom_5 10 rfl rfl)
theorem dX1_savedFrom_129 : decode cX1_savedFrom 129 = .ok (.invokevirtual 623, 3) := dk_182 2 111 (dk_at dksX1_savedFrom_5 11 rfl rfl)
theorem dX1_savedFrom_132 : decode cX1_savedFrom 132 = .ok (.iadd, 1) := dk_96 (dk_at dksX1_savedFrom_5 14 rfl rfl)
theorem dX1_savedFrom_133 : decode cX1_savedFrom 133 = .ok (.invokestatic 597, 3) := dk_184 2 85 (dk_at dksX1_savedFrom_5 15 rfl rfl)
theorem dX1_savedFrom_136 : decode cX1_savedFrom 136 = .ok (.istore 5, 2) := dk_54 5 (dk_at dksX1_savedFrom_5 18 rfl rfl)
theorem dX1_savedFrom_138 : decode cX1_savedFrom 138 = .ok (.iinc 8 1, 3) := dk_132 8 1 (dk_at dksX1_savedFrom_5 20 rfl rfl)
theorem dX1_savedFrom_141 : decode cX1_savedFrom 141 = .ok (.goto (-45), 3) := dk_167 255 211 (dk_at dksX1_savedFrom_6 0 rfl rfl)
theorem dX1_savedFrom_144 : decode cX1_savedFrom 144 = .ok (.iload 5, 2) := dk_21 5 (dk_at dksX1_savedFrom_6 3 rfl rfl)
theorem dX1_savedFrom_146 : decode cX1_savedFrom 146 = .ok (.ireturn, 1) := dk_172 (dk_at dksX1_savedFrom_6 5 rfl rfl)
abbrev cX1_lend : ByteArray := prog_1_method_97_code
def yX1_lend : MethodName := ⟨RX1, "lend", "(I)I"⟩
def dkwX1_lend_3 : List UInt8 := [2, 159, 0, 9, 28, 4, 29, 120, 128, 61, 132, 4, 1, 167, 255, 206, 29, 172]
abbrev dktX1_lend_3 : List UInt8 := dkwX1_lend_3 ++ []
def dkwX1_lend_2 : List UInt8 := [182, 2, 127, 42, 180, 0, 68, 21, 4, 28, 184, 2, 124, 46, 159, 0, 9, 132, 3, 1, 167, 255, 231, 29]
abbrev dktX1_lend_2 : List UInt8 := dkwX1_lend_2 ++ dktX1_lend_3
def dkwX1_lend_1 : List UInt8 := [46, 172, 3, 61, 2, 62, 3, 54, 4, 21, 4, 27, 163, 0, 50, 2, 62, 42, 21, 4, 28, 29]
abbrev dktX1_lend_1 : List UInt8 := dkwX1_lend_1 ++ dktX1_lend_2
def dkwX1_lend_0 : List UInt8 := [27, 2, 159, 0, 8, 42, 27, 182, 1, 236, 42, 182, 2, 130, 27, 2, 160, 0, 10, 42, 180, 0, 68, 3]
abbrev dktX1_lend_0 : List UInt8 := dkwX1_lend_0 ++ dktX1_lend_1
theorem dksX1_lend_0 : cX1_lend.data.toList.drop 0 = dktX1_lend_0 := by decide +kernel
theorem dksX1_lend_1 : cX1_lend.data.toList.drop 24 = dktX1_lend_1 := dk_seg dksX1_lend_0 24 rfl rfl
theorem dksX1_lend_2 : cX1_lend.data.toList.drop 46 = dktX1_lend_2 := dk_seg dksX1_lend_1 22 rfl rfl
theorem dksX1_lend_3 : cX1_lend.data.toList.drop 70 = dktX1_lend_3 := dk_seg dksX1_lend_2 24 rfl rfl
theorem dX1_lend_0 : decode cX1_lend 0 = .ok (.iload_n 1, 1) := dk_27 (dk_at dksX1_lend_0 0 rfl rfl)
theorem dX1_lend_1 : decode cX1_lend 1 = .ok (.iconst (-1), 1) := dk_2 (dk_at dksX1_lend_0 1 rfl rfl)
theorem dX1_lend_2 : decode cX1_lend 2 = .ok (.if_icmp .eq 8, 3) := dk_159 0 8 (dk_at dksX1_lend_0 2 rfl rfl)
theorem dX1_lend_5 : decode cX1_lend 5 = .ok (.aload_n 0, 1) := dk_42 (dk_at dksX1_lend_0 5 rfl rfl)
theorem dX1_lend_6 : decode cX1_lend 6 = .ok (.iload_n 1, 1) := dk_27 (dk_at dksX1_lend_0 6 rfl rfl)
theorem dX1_lend_7 : decode cX1_lend 7 = .ok (.invokevirtual 492, 3) := dk_182 1 236 (dk_at dksX1_lend_0 7 rfl rfl)
theorem dX1_lend_10 : decode cX1_lend 10 = .ok (.aload_n 0, 1) := dk_42 (dk_at dksX1_lend_0 10 rfl rfl)
theorem dX1_lend_11 : decode cX1_lend 11 = .ok (.invokevirtual 642, 3) := dk_182 2 130 (dk_at dksX1_lend_0 11 rfl rfl)
theorem dX1_lend_14 : decode cX1_lend 14 = .ok (.iload_n 1, 1) := dk_27 (dk_at dksX1_lend_0 14 rfl rfl)
theorem dX1_lend_15 : decode cX1_lend 15 = .ok (.iconst (-1), 1) := dk_2 (dk_at dksX1_lend_0 15 rfl rfl)
theorem dX1_lend_16 : decode cX1_lend 16 = .ok (.if_icmp .ne 10, 3) := dk_160 0 10 (dk_at dksX1_lend_0 16 rfl rfl)
theorem dX1_lend_19 : decode cX1_lend 19 = .ok (.aload_n 0, 1) := dk_42 (dk_at dksX1_lend_0 19 rfl rfl)
theorem dX1_lend_20 : decode cX1_lend 20 = .ok (.getfield 68, 3) := dk_180 0 68 (dk_at dksX1_lend_0 20 rfl rfl)
theorem dX1_lend_23 : decode cX1_lend 23 = .ok (.iconst 0, 1) := dk_3 (dk_at dksX1_lend_0 23 rfl rfl)
theorem dX1_lend_24 : decode cX1_lend 24 = .ok (.iaload, 1) := dk_46 (dk_at dksX1_lend_1 0 rfl rfl)
theorem dX1_lend_25 : decode cX1_lend 25 = .ok (.ireturn, 1) := dk_172 (dk_at dksX1_lend_1 1 rfl rfl)
theorem dX1_lend_26 : decode cX1_lend 26 = .ok (.iconst 0, 1) := dk_3 (dk_at dksX1_lend_1 2 rfl rfl)
theorem dX1_lend_27 : decode cX1_lend 27 = .ok (.istore_n 2, 1) := dk_61 (dk_at dksX1_lend_1 3 rfl rfl)
theorem dX1_lend_28 : decode cX1_lend 28 = .ok (.iconst (-1), 1) := dk_2 (dk_at dksX1_lend_1 4 rfl rfl)
theorem dX1_lend_29 : decode cX1_lend 29 = .ok (.istore_n 3, 1) := dk_62 (dk_at dksX1_lend_1 5 rfl rfl)
theorem dX1_lend_30 : decode cX1_lend 30 = .ok (.iconst 0, 1) := dk_3 (dk_at dksX1_lend_1 6 rfl rfl)
theorem dX1_lend_31 : decode cX1_lend 31 = .ok (.istore 4, 2) := dk_54 4 (dk_at dksX1_lend_1 7 rfl rfl)
theorem dX1_lend_33 : decode cX1_lend 33 = .ok (.iload 4, 2) := dk_21 4 (dk_at dksX1_lend_1 9 rfl rfl)
theorem dX1_lend_35 : decode cX1_lend 35 = .ok (.iload_n 1, 1) := dk_27 (dk_at dksX1_lend_1 11 rfl rfl)
theorem dX1_lend_36 : decode cX1_lend 36 = .ok (.if_icmp .gt 50, 3) := dk_163 0 50 (dk_at dksX1_lend_1 12 rfl rfl)
theorem dX1_lend_39 : decode cX1_lend 39 = .ok (.iconst (-1), 1) := dk_2 (dk_at dksX1_lend_1 15 rfl rfl)
theorem dX1_lend_40 : decode cX1_lend 40 = .ok (.istore_n 3, 1) := dk_62 (dk_at dksX1_lend_1 16 rfl rfl)
theorem dX1_lend_41 : decode cX1_lend 41 = .ok (.aload_n 0, 1) := dk_42 (dk_at dksX1_lend_1 17 rfl rfl)
theorem dX1_lend_42 : decode cX1_lend 42 = .ok (.iload 4, 2) := dk_21 4 (dk_at dksX1_lend_1 18 rfl rfl)
theorem dX1_lend_44 : decode cX1_lend 44 = .ok (.iload_n 2, 1) := dk_28 (dk_at dksX1_lend_1 20 rfl rfl)
theorem dX1_lend_45 : decode cX1_lend 45 = .ok (.iload_n 3, 1) := dk_29 (dk_at dksX1_lend_1 21 rfl rfl)
theorem dX1_lend_46 : decode cX1_lend 46 = .ok (.invokevirtual 639, 3) := dk_182 2 127 (dk_at dksX1_lend_2 0 rfl rfl)
theorem dX1_lend_49 : decode cX1_lend 49 = .ok (.aload_n 0, 1) := dk_42 (dk_at dksX1_lend_2 3 rfl rfl)
theorem dX1_lend_50 : decode cX1_lend 50 = .ok (.getfield 68, 3) := dk_180 0 68 (dk_at dksX1_lend_2 4 rfl rfl)
theorem dX1_lend_53 : decode cX1_lend 53 = .ok (.iload 4, 2) := dk_21 4 (dk_at dksX1_lend_2 7 rfl rfl)
theorem dX1_lend_55 : decode cX1_lend 55 = .ok (.iload_n 2, 1) := dk_28 (dk_at dksX1_lend_2 9 rfl rfl)
theorem dX1_lend_56 : decode cX1_lend 56 = .ok (.invokestatic 636, 3) := dk_184 2 124 (dk_at dksX1_lend_2 10 rfl rfl)
theorem dX1_lend_59 : decode cX1_lend 59 = .ok (.iaload, 1) := dk_46 (dk_at dksX1_lend_2 13 rfl rfl)
theorem dX1_lend_60 : decode cX1_lend 60 = .ok (.if_icmp .eq 9, 3) := dk_159 0 9 (dk_at dksX1_lend_2 14 rfl rfl)
theorem dX1_lend_63 : decode cX1_lend 63 = .ok (.iinc 3 1, 3) := dk_132 3 1 (dk_at dksX1_lend_2 17 rfl rfl)
theorem dX1_lend_66 : decode cX1_lend 66 = .ok (.goto (-25), 3) := dk_167 255 231 (dk_at dksX1_lend_2 20 rfl rfl)
theorem dX1_lend_69 : decode cX1_lend 69 = .ok (.iload_n 3, 1) := dk_29 (dk_at dksX1_lend_2 23 rfl rfl)
theorem dX1_lend_70 : decode cX1_lend 70 = .ok (.iconst (-1), 1) := dk_2 (dk_at dksX1_lend_3 0 rfl rfl)
theorem dX1_lend_71 : decode cX1_lend 71 = .ok (.if_icmp .eq 9, 3) := dk_159 0 9 (dk_at dksX1_lend_3 1 rfl rfl)
theorem dX1_lend_74 : decode cX1_lend 74 = .ok (.iload_n 2, 1) := dk_28 (dk_at dksX1_lend_3 4 rfl rfl)
theorem dX1_lend_75 : decode cX1_lend 75 = .ok (.iconst 1, 1) := dk_4 (dk_at dksX1_lend_3 5 rfl rfl)
theorem dX1_lend_76 : decode cX1_lend 76 = .ok (.iload_n 3, 1) := dk_29 (dk_at dksX1_lend_3 6 rfl rfl)
theorem dX1_lend_77 : decode cX1_lend 77 = .ok (.ishl, 1) := dk_120 (dk_at dksX1_lend_3 7 rfl rfl)
theorem dX1_lend_78 : decode cX1_lend 78 = .ok (.ior, 1) := dk_128 (dk_at dksX1_lend_3 8 rfl rfl)
theorem dX1_lend_79 : decode cX1_lend 79 = .ok (.istore_n 2, 1) := dk_61 (dk_at dksX1_lend_3 9 rfl rfl)
theorem dX1_lend_80 : decode cX1_lend 80 = .ok (.iinc 4 1, 3) := dk_132 4 1 (dk_at dksX1_lend_3 10 rfl rfl)
theorem dX1_lend_83 : decode cX1_lend 83 = .ok (.goto (-50), 3) := dk_167 255 206 (dk_at dksX1_lend_3 13 rfl rfl)
theorem dX1_lend_86 : decode cX1_lend 86 = .ok (.iload_n 3, 1) := dk_29 (dk_at dksX1_lend_3 16 rfl rfl)
theorem dX1_lend_87 : decode cX1_lend 87 = .ok (.ireturn, 1) := dk_172 (dk_at dksX1_lend_3 17 rfl rfl)
abbrev cX1_laysLent : ByteArray := prog_1_method_96_code
def yX1_laysLent : MethodName := ⟨RX1, "laysLent", "()V"⟩
def dkwX1_laysLent_3 : List UInt8 := [180, 0, 68, 27, 28, 184, 2, 124, 29, 79, 132, 2, 1, 167, 255, 188, 132, 1, 255, 167, 255, 176, 177]
abbrev dktX1_laysLent_3 : List UInt8 := dkwX1_laysLent_3 ++ []
def dkwX1_laysLent_2 : List UInt8 := [162, 0, 22, 29, 42, 27, 28, 21, 4, 182, 2, 127, 184, 2, 85, 62, 132, 4, 1, 167, 255, 217, 42]
abbrev dktX1_laysLent_2 : List UInt8 := dkwX1_laysLent_2 ++ dktX1_laysLent_3
def dkwX1_laysLent_1 : List UInt8 := [54, 4, 21, 4, 42, 180, 0, 10, 180, 0, 132, 162, 0, 33, 27, 42, 180, 0, 10, 180, 0, 168]
abbrev dktX1_laysLent_1 : List UInt8 := dkwX1_laysLent_1 ++ dktX1_laysLent_2
def dkwX1_laysLent_0 : List UInt8 := [42, 180, 0, 10, 180, 0, 168, 60, 27, 155, 0, 82, 3, 61, 28, 17, 1, 0, 162, 0, 67, 3, 62, 2]
abbrev dktX1_laysLent_0 : List UInt8 := dkwX1_laysLent_0 ++ dktX1_laysLent_1
theorem dksX1_laysLent_0 : cX1_laysLent.data.toList.drop 0 = dktX1_laysLent_0 := by decide +kernel
theorem dksX1_laysLent_1 : cX1_laysLent.data.toList.drop 24 = dktX1_laysLent_1 := dk_seg dksX1_laysLent_0 24 rfl rfl
theorem dksX1_laysLent_2 : cX1_laysLent.data.toList.drop 46 = dktX1_laysLent_2 := dk_seg dksX1_laysLent_1 22 rfl rfl
theorem dksX1_laysLent_3 : cX1_laysLent.data.toList.drop 69 = dktX1_laysLent_3 := dk_seg dksX1_laysLent_2 23 rfl rfl
theorem dX1_laysLent_0 : decode cX1_laysLent 0 = .ok (.aload_n 0, 1) := dk_42 (dk_at dksX1_laysLent_0 0 rfl rfl)
theorem dX1_laysLent_1 : decode cX1_laysLent 1 = .ok (.getfield 10, 3) := dk_180 0 10 (dk_at dksX1_laysLent_0 1 rfl rfl)
theorem dX1_laysLent_4 : decode cX1_laysLent 4 = .ok (.getfield 168, 3) := dk_180 0 168 (dk_at dksX1_laysLent_0 4 rfl rfl)
theorem dX1_laysLent_7 : decode cX1_laysLent 7 = .ok (.istore_n 1, 1) := dk_60 (dk_at dksX1_laysLent_0 7 rfl rfl)
theorem dX1_laysLent_8 : decode cX1_laysLent 8 = .ok (.iload_n 1, 1) := dk_27 (dk_at dksX1_laysLent_0 8 rfl rfl)
theorem dX1_laysLent_9 : decode cX1_laysLent 9 = .ok (.ifCond .lt 82, 3) := dk_155 0 82 (dk_at dksX1_laysLent_0 9 rfl rfl)
theorem dX1_laysLent_12 : decode cX1_laysLent 12 = .ok (.iconst 0, 1) := dk_3 (dk_at dksX1_laysLent_0 12 rfl rfl)
theorem dX1_laysLent_13 : decode cX1_laysLent 13 = .ok (.istore_n 2, 1) := dk_61 (dk_at dksX1_laysLent_0 13 rfl rfl)
theorem dX1_laysLent_14 : decode cX1_laysLent 14 = .ok (.iload_n 2, 1) := dk_28 (dk_at dksX1_laysLent_0 14 rfl rfl)
theorem dX1_laysLent_15 : decode cX1_laysLent 15 = .ok (.sipush 256, 3) := dk_17 1 0 (dk_at dksX1_laysLent_0 15 rfl rfl)
theorem dX1_laysLent_18 : decode cX1_laysLent 18 = .ok (.if_icmp .ge 67, 3) := dk_162 0 67 (dk_at dksX1_laysLent_0 18 rfl rfl)
theorem dX1_laysLent_21 : decode cX1_laysLent 21 = .ok (.iconst 0, 1) := dk_3 (dk_at dksX1_laysLent_0 21 rfl rfl)
theorem dX1_laysLent_22 : decode cX1_laysLent 22 = .ok (.istore_n 3, 1) := dk_62 (dk_at dksX1_laysLent_0 22 rfl rfl)
theorem dX1_laysLent_23 : decode cX1_laysLent 23 = .ok (.iconst (-1), 1) := dk_2 (dk_at dksX1_laysLent_0 23 rfl rfl)
theorem dX1_laysLent_24 : decode cX1_laysLent 24 = .ok (.istore 4, 2) := dk_54 4 (dk_at dksX1_laysLent_1 0 rfl rfl)
theorem dX1_laysLent_26 : decode cX1_laysLent 26 = .ok (.iload 4, 2) := dk_21 4 (dk_at dksX1_laysLent_1 2 rfl rfl)
theorem dX1_laysLent_28 : decode cX1_laysLent 28 = .ok (.aload_n 0, 1) := dk_42 (dk_at dksX1_laysLent_1 4 rfl rfl)
theorem dX1_laysLent_29 : decode cX1_laysLent 29 = .ok (.getfield 10, 3) := dk_180 0 10 (dk_at dksX1_laysLent_1 5 rfl rfl)
theorem dX1_laysLent_32 : decode cX1_laysLent 32 = .ok (.getfield 132, 3) := dk_180 0 132 (dk_at dksX1_laysLent_1 8 rfl rfl)
theorem dX1_laysLent_35 : decode cX1_laysLent 35 = .ok (.if_icmp .ge 33, 3) := dk_162 0 33 (dk_at dksX1_laysLent_1 11 rfl rfl)
theorem dX1_laysLent_38 : decode cX1_laysLent 38 = .ok (.iload_n 1, 1) := dk_27 (dk_at dksX1_laysLent_1 14 rfl rfl)
theorem dX1_laysLent_39 : decode cX1_laysLent 39 = .ok (.aload_n 0, 1) := dk_42 (dk_at dksX1_laysLent_1 15 rfl rfl)
theorem dX1_laysLent_40 : decode cX1_laysLent 40 = .ok (.getfield 10, 3) := dk_180 0 10 (dk_at dksX1_laysLent_1 16 rfl rfl)
theorem dX1_laysLent_43 : decode cX1_laysLent 43 = .ok (.getfield 168, 3) := dk_180 0 168 (dk_at dksX1_laysLent_1 19 rfl rfl)
theorem dX1_laysLent_46 : decode cX1_laysLent 46 = .ok (.if_icmp .ge 22, 3) := dk_162 0 22 (dk_at dksX1_laysLent_2 0 rfl rfl)
theorem dX1_laysLent_49 : decode cX1_laysLent 49 = .ok (.iload_n 3, 1) := dk_29 (dk_at dksX1_laysLent_2 3 rfl rfl)
theorem dX1_laysLent_50 : decode cX1_laysLent 50 = .ok (.aload_n 0, 1) := dk_42 (dk_at dksX1_laysLent_2 4 rfl rfl)
theorem dX1_laysLent_51 : decode cX1_laysLent 51 = .ok (.iload_n 1, 1) := dk_27 (dk_at dksX1_laysLent_2 5 rfl rfl)
theorem dX1_laysLent_52 : decode cX1_laysLent 52 = .ok (.iload_n 2, 1) := dk_28 (dk_at dksX1_laysLent_2 6 rfl rfl)
theorem dX1_laysLent_53 : decode cX1_laysLent 53 = .ok (.iload 4, 2) := dk_21 4 (dk_at dksX1_laysLent_2 7 rfl rfl)
theorem dX1_laysLent_55 : decode cX1_laysLent 55 = .ok (.invokevirtual 639, 3) := dk_182 2 127 (dk_at dksX1_laysLent_2 9 rfl rfl)
theorem dX1_laysLent_58 : decode cX1_laysLent 58 = .ok (.invokestatic 597, 3) := dk_184 2 85 (dk_at dksX1_laysLent_2 12 rfl rfl)
theorem dX1_laysLent_61 : decode cX1_laysLent 61 = .ok (.istore_n 3, 1) := dk_62 (dk_at dksX1_laysLent_2 15 rfl rfl)
theorem dX1_laysLent_62 : decode cX1_laysLent 62 = .ok (.iinc 4 1, 3) := dk_132 4 1 (dk_at dksX1_laysLent_2 16 rfl rfl)
theorem dX1_laysLent_65 : decode cX1_laysLent 65 = .ok (.goto (-39), 3) := dk_167 255 217 (dk_at dksX1_laysLent_2 19 rfl rfl)
theorem dX1_laysLent_68 : decode cX1_laysLent 68 = .ok (.aload_n 0, 1) := dk_42 (dk_at dksX1_laysLent_2 22 rfl rfl)
theorem dX1_laysLent_69 : decode cX1_laysLent 69 = .ok (.getfield 68, 3) := dk_180 0 68 (dk_at dksX1_laysLent_3 0 rfl rfl)
theorem dX1_laysLent_72 : decode cX1_laysLent 72 = .ok (.iload_n 1, 1) := dk_27 (dk_at dksX1_laysLent_3 3 rfl rfl)
theorem dX1_laysLent_73 : decode cX1_laysLent 73 = .ok (.iload_n 2, 1) := dk_28 (dk_at dksX1_laysLent_3 4 rfl rfl)
theorem dX1_laysLent_74 : decode cX1_laysLent 74 = .ok (.invokestatic 636, 3) := dk_184 2 124 (dk_at dksX1_laysLent_3 5 rfl rfl)
theorem dX1_laysLent_77 : decode cX1_laysLent 77 = .ok (.iload_n 3, 1) := dk_29 (dk_at dksX1_laysLent_3 8 rfl rfl)
theorem dX1_laysLent_78 : decode cX1_laysLent 78 = .ok (.iastore, 1) := dk_79 (dk_at dksX1_laysLent_3 9 rfl rfl)
theorem dX1_laysLent_79 : decode cX1_laysLent 79 = .ok (.iinc 2 1, 3) := dk_132 2 1 (dk_at dksX1_laysLent_3 10 rfl rfl)
theorem dX1_laysLent_82 : decode cX1_laysLent 82 = .ok (.goto (-68), 3) := dk_167 255 188 (dk_at dksX1_laysLent_3 13 rfl rfl)
theorem dX1_laysLent_85 : decode cX1_laysLent 85 = .ok (.iinc 1 (-1), 3) := dk_132 1 255 (dk_at dksX1_laysLent_3 16 rfl rfl)
theorem dX1_laysLent_88 : decode cX1_laysLent 88 = .ok (.goto (-80), 3) := dk_167 255 176 (dk_at dksX1_laysLent_3 19 rfl rfl)
theorem dX1_laysLent_91 : decode cX1_laysLent 91 = .ok (.return_, 1) := dk_177 (dk_at dksX1_laysLent_3 22 rfl rfl)
abbrev cX1_lentBy : ByteArray := prog_1_method_95_code
def yX1_lentBy : MethodName := ⟨RX1, "lentBy", "(III)I"⟩
def dkwX1_lentBy_3 : List UInt8 := [29, 50, 27, 46, 42, 180, 0, 68, 27, 4, 96, 28, 4, 29, 120, 128, 184, 2, 124, 46, 96, 172]
abbrev dktX1_lentBy_3 : List UInt8 := dkwX1_lentBy_3 ++ []
def dkwX1_lentBy_2 : List UInt8 := [154, 0, 15, 42, 180, 0, 10, 29, 27, 182, 2, 40, 154, 0, 5, 2, 172, 42, 180, 0, 10, 180, 0, 155]
abbrev dktX1_lentBy_2 : List UInt8 := dkwX1_lentBy_2 ++ dktX1_lentBy_3
def dkwX1_lentBy_1 : List UInt8 := [154, 0, 37, 42, 180, 0, 10, 29, 182, 1, 254, 154, 0, 26, 42, 180, 0, 10, 27, 182, 2, 4]
abbrev dktX1_lentBy_1 : List UInt8 := dkwX1_lentBy_1 ++ dktX1_lentBy_2
def dkwX1_lentBy_0 : List UInt8 := [29, 2, 160, 0, 16, 42, 180, 0, 68, 27, 4, 96, 28, 184, 2, 124, 46, 172, 28, 29, 184, 0, 128]
abbrev dktX1_lentBy_0 : List UInt8 := dkwX1_lentBy_0 ++ dktX1_lentBy_1
theorem dksX1_lentBy_0 : cX1_lentBy.data.toList.drop 0 = dktX1_lentBy_0 := by decide +kernel
theorem dksX1_lentBy_1 : cX1_lentBy.data.toList.drop 23 = dktX1_lentBy_1 := dk_seg dksX1_lentBy_0 23 rfl rfl
theorem dksX1_lentBy_2 : cX1_lentBy.data.toList.drop 45 = dktX1_lentBy_2 := dk_seg dksX1_lentBy_1 22 rfl rfl
theorem dksX1_lentBy_3 : cX1_lentBy.data.toList.drop 69 = dktX1_lentBy_3 := dk_seg dksX1_lentBy_2 24 rfl rfl
theorem dX1_lentBy_0 : decode cX1_lentBy 0 = .ok (.iload_n 3, 1) := dk_29 (dk_at dksX1_lentBy_0 0 rfl rfl)
theorem dX1_lentBy_1 : decode cX1_lentBy 1 = .ok (.iconst (-1), 1) := dk_2 (dk_at dksX1_lentBy_0 1 rfl rfl)
theorem dX1_lentBy_2 : decode cX1_lentBy 2 = .ok (.if_icmp .ne 16, 3) := dk_160 0 16 (dk_at dksX1_lentBy_0 2 rfl rfl)
theorem dX1_lentBy_5 : decode cX1_lentBy 5 = .ok (.aload_n 0, 1) := dk_42 (dk_at dksX1_lentBy_0 5 rfl rfl)
theorem dX1_lentBy_6 : decode cX1_lentBy 6 = .ok (.getfield 68, 3) := dk_180 0 68 (dk_at dksX1_lentBy_0 6 rfl rfl)
theorem dX1_lentBy_9 : decode cX1_lentBy 9 = .ok (.iload_n 1, 1) := dk_27 (dk_at dksX1_lentBy_0 9 rfl rfl)
theorem dX1_lentBy_10 : decode cX1_lentBy 10 = .ok (.iconst 1, 1) := dk_4 (dk_at dksX1_lentBy_0 10 rfl rfl)
theorem dX1_lentBy_11 : decode cX1_lentBy 11 = .ok (.iadd, 1) := dk_96 (dk_at dksX1_lentBy_0 11 rfl rfl)
theorem dX1_lentBy_12 : decode cX1_lentBy 12 = .ok (.iload_n 2, 1) := dk_28 (dk_at dksX1_lentBy_0 12 rfl rfl)
theorem dX1_lentBy_13 : decode cX1_lentBy 13 = .ok (.invokestatic 636, 3) := dk_184 2 124 (dk_at dksX1_lentBy_0 13 rfl rfl)
theorem dX1_lentBy_16 : decode cX1_lentBy 16 = .ok (.iaload, 1) := dk_46 (dk_at dksX1_lentBy_0 16 rfl rfl)
theorem dX1_lentBy_17 : decode cX1_lentBy 17 = .ok (.ireturn, 1) := dk_172 (dk_at dksX1_lentBy_0 17 rfl rfl)
theorem dX1_lentBy_18 : decode cX1_lentBy 18 = .ok (.iload_n 2, 1) := dk_28 (dk_at dksX1_lentBy_0 18 rfl rfl)
theorem dX1_lentBy_19 : decode cX1_lentBy 19 = .ok (.iload_n 3, 1) := dk_29 (dk_at dksX1_lentBy_0 19 rfl rfl)
theorem dX1_lentBy_20 : decode cX1_lentBy 20 = .ok (.invokestatic 128, 3) := dk_184 0 128 (dk_at dksX1_lentBy_0 20 rfl rfl)
theorem dX1_lentBy_23 : decode cX1_lentBy 23 = .ok (.ifCond .ne 37, 3) := dk_154 0 37 (dk_at dksX1_lentBy_1 0 rfl rfl)
theorem dX1_lentBy_26 : decode cX1_lentBy 26 = .ok (.aload_n 0, 1) := dk_42 (dk_at dksX1_lentBy_1 3 rfl rfl)
theorem dX1_lentBy_27 : decode cX1_lentBy 27 = .ok (.getfield 10, 3) := dk_180 0 10 (dk_at dksX1_lentBy_1 4 rfl rfl)
theorem dX1_lentBy_30 : decode cX1_lentBy 30 = .ok (.iload_n 3, 1) := dk_29 (dk_at dksX1_lentBy_1 7 rfl rfl)
theorem dX1_lentBy_31 : decode cX1_lentBy 31 = .ok (.invokevirtual 510, 3) := dk_182 1 254 (dk_at dksX1_lentBy_1 8 rfl rfl)
theorem dX1_lentBy_34 : decode cX1_lentBy 34 = .ok (.ifCond .ne 26, 3) := dk_154 0 26 (dk_at dksX1_lentBy_1 11 rfl rfl)
theorem dX1_lentBy_37 : decode cX1_lentBy 37 = .ok (.aload_n 0, 1) := dk_42 (dk_at dksX1_lentBy_1 14 rfl rfl)
theorem dX1_lentBy_38 : decode cX1_lentBy 38 = .ok (.getfield 10, 3) := dk_180 0 10 (dk_at dksX1_lentBy_1 15 rfl rfl)
theorem dX1_lentBy_41 : decode cX1_lentBy 41 = .ok (.iload_n 1, 1) := dk_27 (dk_at dksX1_lentBy_1 18 rfl rfl)
theorem dX1_lentBy_42 : decode cX1_lentBy 42 = .ok (.invokevirtual 516, 3) := dk_182 2 4 (dk_at dksX1_lentBy_1 19 rfl rfl)
theorem dX1_lentBy_45 : decode cX1_lentBy 45 = .ok (.ifCond .ne 15, 3) := dk_154 0 15 (dk_at dksX1_lentBy_2 0 rfl rfl)
theorem dX1_lentBy_48 : decode cX1_lentBy 48 = .ok (.aload_n 0, 1) := dk_42 (dk_at dksX1_lentBy_2 3 rfl rfl)
theorem dX1_lentBy_49 : decode cX1_lentBy 49 = .ok (.getfield 10, 3) := dk_180 0 10 (dk_at dksX1_lentBy_2 4 rfl rfl)
theorem dX1_lentBy_52 : decode cX1_lentBy 52 = .ok (.iload_n 3, 1) := dk_29 (dk_at dksX1_lentBy_2 7 rfl rfl)
theorem dX1_lentBy_53 : decode cX1_lentBy 53 = .ok (.iload_n 1, 1) := dk_27 (dk_at dksX1_lentBy_2 8 rfl rfl)
theorem dX1_lentBy_54 : decode cX1_lentBy 54 = .ok (.invokevirtual 552, 3) := dk_182 2 40 (dk_at dksX1_lentBy_2 9 rfl rfl)
theorem dX1_lentBy_57 : decode cX1_lentBy 57 = .ok (.ifCond .ne 5, 3) := dk_154 0 5 (dk_at dksX1_lentBy_2 12 rfl rfl)
theorem dX1_lentBy_60 : decode cX1_lentBy 60 = .ok (.iconst (-1), 1) := dk_2 (dk_at dksX1_lentBy_2 15 rfl rfl)
theorem dX1_lentBy_61 : decode cX1_lentBy 61 = .ok (.ireturn, 1) := dk_172 (dk_at dksX1_lentBy_2 16 rfl rfl)
theorem dX1_lentBy_62 : decode cX1_lentBy 62 = .ok (.aload_n 0, 1) := dk_42 (dk_at dksX1_lentBy_2 17 rfl rfl)
theorem dX1_lentBy_63 : decode cX1_lentBy 63 = .ok (.getfield 10, 3) := dk_180 0 10 (dk_at dksX1_lentBy_2 18 rfl rfl)
theorem dX1_lentBy_66 : decode cX1_lentBy 66 = .ok (.getfield 155, 3) := dk_180 0 155 (dk_at dksX1_lentBy_2 21 rfl rfl)
theorem dX1_lentBy_69 : decode cX1_lentBy 69 = .ok (.iload_n 3, 1) := dk_29 (dk_at dksX1_lentBy_3 0 rfl rfl)
theorem dX1_lentBy_70 : decode cX1_lentBy 70 = .ok (.aaload, 1) := dk_50 (dk_at dksX1_lentBy_3 1 rfl rfl)
theorem dX1_lentBy_71 : decode cX1_lentBy 71 = .ok (.iload_n 1, 1) := dk_27 (dk_at dksX1_lentBy_3 2 rfl rfl)
theorem dX1_lentBy_72 : decode cX1_lentBy 72 = .ok (.iaload, 1) := dk_46 (dk_at dksX1_lentBy_3 3 rfl rfl)
theorem dX1_lentBy_73 : decode cX1_lentBy 73 = .ok (.aload_n 0, 1) := dk_42 (dk_at dksX1_lentBy_3 4 rfl rfl)
theorem dX1_lentBy_74 : decode cX1_lentBy 74 = .ok (.getfield 68, 3) := dk_180 0 68 (dk_at dksX1_lentBy_3 5 rfl rfl)
theorem dX1_lentBy_77 : decode cX1_lentBy 77 = .ok (.iload_n 1, 1) := dk_27 (dk_at dksX1_lentBy_3 8 rfl rfl)
theorem dX1_lentBy_78 : decode cX1_lentBy 78 = .ok (.iconst 1, 1) := dk_4 (dk_at dksX1_lentBy_3 9 rfl rfl)
theorem dX1_lentBy_79 : decode cX1_lentBy 79 = .ok (.iadd, 1) := dk_96 (dk_at dksX1_lentBy_3 10 rfl rfl)
theorem dX1_lentBy_80 : decode cX1_lentBy 80 = .ok (.iload_n 2, 1) := dk_28 (dk_at dksX1_lentBy_3 11 rfl rfl)
theorem dX1_lentBy_81 : decode cX1_lentBy 81 = .ok (.iconst 1, 1) := dk_4 (dk_at dksX1_lentBy_3 12 rfl rfl)
theorem dX1_lentBy_82 : decode cX1_lentBy 82 = .ok (.iload_n 3, 1) := dk_29 (dk_at dksX1_lentBy_3 13 rfl rfl)
theorem dX1_lentBy_83 : decode cX1_lentBy 83 = .ok (.ishl, 1) := dk_120 (dk_at dksX1_lentBy_3 14 rfl rfl)
theorem dX1_lentBy_84 : decode cX1_lentBy 84 = .ok (.ior, 1) := dk_128 (dk_at dksX1_lentBy_3 15 rfl rfl)
theorem dX1_lentBy_85 : decode cX1_lentBy 85 = .ok (.invokestatic 636, 3) := dk_184 2 124 (dk_at dksX1_lentBy_3 16 rfl rfl)
theorem dX1_lentBy_88 : decode cX1_lentBy 88 = .ok (.iaload, 1) := dk_46 (dk_at dksX1_lentBy_3 19 rfl rfl)
theorem dX1_lentBy_89 : decode cX1_lentBy 89 = .ok (.iadd, 1) := dk_96 (dk_at dksX1_lentBy_3 20 rfl rfl)
theorem dX1_lentBy_90 : decode cX1_lentBy 90 = .ok (.ireturn, 1) := dk_172 (dk_at dksX1_lentBy_3 21 rfl rfl)
abbrev cX1_lentAt : ByteArray := prog_1_method_94_code
def yX1_lentAt : MethodName := ⟨RX1, "lentAt", "(II)I"⟩
def dkwX1_lentAt_0 : List UInt8 := [26, 16, 8, 120, 27, 96, 172]
abbrev dktX1_lentAt_0 : List UInt8 := dkwX1_lentAt_0 ++ []
theorem dksX1_lentAt_0 : cX1_lentAt.data.toList.drop 0 = dktX1_lentAt_0 := by decide +kernel
theorem dX1_lentAt_0 : decode cX1_lentAt 0 = .ok (.iload_n 0, 1) := dk_26 (dk_at dksX1_lentAt_0 0 rfl rfl)
theorem dX1_lentAt_1 : decode cX1_lentAt 1 = .ok (.bipush 8, 2) := dk_16 8 (dk_at dksX1_lentAt_0 1 rfl rfl)
theorem dX1_lentAt_3 : decode cX1_lentAt 3 = .ok (.ishl, 1) := dk_120 (dk_at dksX1_lentAt_0 3 rfl rfl)
theorem dX1_lentAt_4 : decode cX1_lentAt 4 = .ok (.iload_n 1, 1) := dk_27 (dk_at dksX1_lentAt_0 4 rfl rfl)
theorem dX1_lentAt_5 : decode cX1_lentAt 5 = .ok (.iadd, 1) := dk_96 (dk_at dksX1_lentAt_0 5 rfl rfl)
theorem dX1_lentAt_6 : decode cX1_lentAt 6 = .ok (.ireturn, 1) := dk_172 (dk_at dksX1_lentAt_0 6 rfl rfl)
abbrev cX1_odds : ByteArray := prog_1_method_91_code
def yX1_odds : MethodName := ⟨RX1, "odds", "(II)I"⟩
def dkwX1_odds_6 : List UInt8 := [167, 255, 173, 20, 2, 116, 33, 105, 22, 5, 109, 136, 172]
abbrev dktX1_odds_6 : List UInt8 := dkwX1_odds_6 ++ []
def dkwX1_odds_5 : List UInt8 := [180, 0, 10, 180, 0, 225, 133, 105, 55, 8, 132, 10, 1, 167, 255, 210, 33, 22, 8, 97, 66, 132, 7, 1]
abbrev dktX1_odds_5 : List UInt8 := dkwX1_odds_5 ++ dktX1_odds_6
def dkwX1_odds_4 : List UInt8 := [21, 10, 184, 0, 128, 153, 0, 17, 16, 100, 42, 180, 0, 10, 180, 0, 225, 100, 133, 167, 0, 11, 42]
abbrev dktX1_odds_4 : List UInt8 := dkwX1_odds_4 ++ dktX1_odds_5
def dkwX1_odds_3 : List UInt8 := [28, 162, 0, 6, 167, 0, 63, 10, 55, 8, 3, 54, 10, 21, 10, 27, 162, 0, 46, 22, 8, 21, 7]
abbrev dktX1_odds_3 : List UInt8 := dkwX1_odds_3 ++ dktX1_odds_4
def dkwX1_odds_2 : List UInt8 := [55, 5, 132, 7, 1, 167, 255, 239, 3, 54, 7, 21, 7, 4, 27, 120, 162, 0, 81, 21, 7, 184, 2, 73]
abbrev dktX1_odds_2 : List UInt8 := dkwX1_odds_2 ++ dktX1_odds_3
def dkwX1_odds_1 : List UInt8 := [3, 184, 1, 242, 9, 66, 10, 55, 5, 3, 54, 7, 21, 7, 27, 162, 0, 17, 22, 5, 20, 2, 114, 105]
abbrev dktX1_odds_1 : List UInt8 := dkwX1_odds_1 ++ dktX1_odds_2
def dkwX1_odds_0 : List UInt8 := [27, 3, 16, 7, 184, 0, 124, 153, 0, 17, 28, 3, 16, 8, 184, 0, 124, 153, 0, 7, 4, 167, 0, 4]
abbrev dktX1_odds_0 : List UInt8 := dkwX1_odds_0 ++ dktX1_odds_1
theorem dksX1_odds_0 : cX1_odds.data.toList.drop 0 = dktX1_odds_0 := by decide +kernel
theorem dksX1_odds_1 : cX1_odds.data.toList.drop 24 = dktX1_odds_1 := dk_seg dksX1_odds_0 24 rfl rfl
theorem dksX1_odds_2 : cX1_odds.data.toList.drop 48 = dktX1_odds_2 := dk_seg dksX1_odds_1 24 rfl rfl
theorem dksX1_odds_3 : cX1_odds.data.toList.drop 72 = dktX1_odds_3 := dk_seg dksX1_odds_2 24 rfl rfl
theorem dksX1_odds_4 : cX1_odds.data.toList.drop 95 = dktX1_odds_4 := dk_seg dksX1_odds_3 23 rfl rfl
theorem dksX1_odds_5 : cX1_odds.data.toList.drop 118 = dktX1_odds_5 := dk_seg dksX1_odds_4 23 rfl rfl
theorem dksX1_odds_6 : cX1_odds.data.toList.drop 142 = dktX1_odds_6 := dk_seg dksX1_odds_5 24 rfl rfl
theorem dX1_odds_0 : decode cX1_odds 0 = .ok (.iload_n 1, 1) := dk_27 (dk_at dksX1_odds_0 0 rfl rfl)
theorem dX1_odds_1 : decode cX1_odds 1 = .ok (.iconst 0, 1) := dk_3 (dk_at dksX1_odds_0 1 rfl rfl)
theorem dX1_odds_2 : decode cX1_odds 2 = .ok (.bipush 7, 2) := dk_16 7 (dk_at dksX1_odds_0 2 rfl rfl)
theorem dX1_odds_4 : decode cX1_odds 4 = .ok (.invokestatic 124, 3) := dk_184 0 124 (dk_at dksX1_odds_0 4 rfl rfl)
theorem dX1_odds_7 : decode cX1_odds 7 = .ok (.ifCond .eq 17, 3) := dk_153 0 17 (dk_at dksX1_odds_0 7 rfl rfl)
theorem dX1_odds_10 : decode cX1_odds 10 = .ok (.iload_n 2, 1) := dk_28 (dk_at dksX1_odds_0 10 rfl rfl)
theorem dX1_odds_11 : decode cX1_odds 11 = .ok (.iconst 0, 1) := dk_3 (dk_at dksX1_odds_0 11 rfl rfl)
theorem dX1_odds_12 : decode cX1_odds 12 = .ok (.bipush 8, 2) := dk_16 8 (dk_at dksX1_odds_0 12 rfl rfl)
theorem dX1_odds_14 : decode cX1_odds 14 = .ok (.invokestatic 124, 3) := dk_184 0 124 (dk_at dksX1_odds_0 14 rfl rfl)
theorem dX1_odds_17 : decode cX1_odds 17 = .ok (.ifCond .eq 7, 3) := dk_153 0 7 (dk_at dksX1_odds_0 17 rfl rfl)
theorem dX1_odds_20 : decode cX1_odds 20 = .ok (.iconst 1, 1) := dk_4 (dk_at dksX1_odds_0 20 rfl rfl)
theorem dX1_odds_21 : decode cX1_odds 21 = .ok (.goto 4, 3) := dk_167 0 4 (dk_at dksX1_odds_0 21 rfl rfl)
theorem dX1_odds_24 : decode cX1_odds 24 = .ok (.iconst 0, 1) := dk_3 (dk_at dksX1_odds_1 0 rfl rfl)
theorem dX1_odds_25 : decode cX1_odds 25 = .ok (.invokestatic 498, 3) := dk_184 1 242 (dk_at dksX1_odds_1 1 rfl rfl)
theorem dX1_odds_28 : decode cX1_odds 28 = .ok (.lconst 0, 1) := dk_9 (dk_at dksX1_odds_1 4 rfl rfl)
theorem dX1_odds_29 : decode cX1_odds 29 = .ok (.lstore_n 3, 1) := dk_66 (dk_at dksX1_odds_1 5 rfl rfl)
theorem dX1_odds_30 : decode cX1_odds 30 = .ok (.lconst 1, 1) := dk_10 (dk_at dksX1_odds_1 6 rfl rfl)
theorem dX1_odds_31 : decode cX1_odds 31 = .ok (.lstore 5, 2) := dk_55 5 (dk_at dksX1_odds_1 7 rfl rfl)
theorem dX1_odds_33 : decode cX1_odds 33 = .ok (.iconst 0, 1) := dk_3 (dk_at dksX1_odds_1 9 rfl rfl)
theorem dX1_odds_34 : decode cX1_odds 34 = .ok (.istore 7, 2) := dk_54 7 (dk_at dksX1_odds_1 10 rfl rfl)
theorem dX1_odds_36 : decode cX1_odds 36 = .ok (.iload 7, 2) := dk_21 7 (dk_at dksX1_odds_1 12 rfl rfl)
theorem dX1_odds_38 : decode cX1_odds 38 = .ok (.iload_n 1, 1) := dk_27 (dk_at dksX1_odds_1 14 rfl rfl)
theorem dX1_odds_39 : decode cX1_odds 39 = .ok (.if_icmp .ge 17, 3) := dk_162 0 17 (dk_at dksX1_odds_1 15 rfl rfl)
theorem dX1_odds_42 : decode cX1_odds 42 = .ok (.lload 5, 2) := dk_22 5 (dk_at dksX1_odds_1 18 rfl rfl)
theorem dX1_odds_44 : decode cX1_odds 44 = .ok (.ldc2_w 626, 3) := dk_20 2 114 (dk_at dksX1_odds_1 20 rfl rfl)
theorem dX1_odds_47 : decode cX1_odds 47 = .ok (.lmul, 1) := dk_105 (dk_at dksX1_odds_1 23 rfl rfl)
theorem dX1_odds_48 : decode cX1_odds 48 = .ok (.lstore 5, 2) := dk_55 5 (dk_at dksX1_odds_2 0 rfl rfl)
theorem dX1_odds_50 : decode cX1_odds 50 = .ok (.iinc 7 1, 3) := dk_132 7 1 (dk_at dksX1_odds_2 2 rfl rfl)
theorem dX1_odds_53 : decode cX1_odds 53 = .ok (.goto (-17), 3) := dk_167 255 239 (dk_at dksX1_odds_2 5 rfl rfl)
theorem dX1_odds_56 : decode cX1_odds 56 = .ok (.iconst 0, 1) := dk_3 (dk_at dksX1_odds_2 8 rfl rfl)
theorem dX1_odds_57 : decode cX1_odds 57 = .ok (.istore 7, 2) := dk_54 7 (dk_at dksX1_odds_2 9 rfl rfl)
theorem dX1_odds_59 : decode cX1_odds 59 = .ok (.iload 7, 2) := dk_21 7 (dk_at dksX1_odds_2 11 rfl rfl)
theorem dX1_odds_61 : decode cX1_odds 61 = .ok (.iconst 1, 1) := dk_4 (dk_at dksX1_odds_2 13 rfl rfl)
theorem dX1_odds_62 : decode cX1_odds 62 = .ok (.iload_n 1, 1) := dk_27 (dk_at dksX1_odds_2 14 rfl rfl)
theorem dX1_odds_63 : decode cX1_odds 63 = .ok (.ishl, 1) := dk_120 (dk_at dksX1_odds_2 15 rfl rfl)
theorem dX1_odds_64 : decode cX1_odds 64 = .ok (.if_icmp .ge 81, 3) := dk_162 0 81 (dk_at dksX1_odds_2 16 rfl rfl)
theorem dX1_odds_67 : decode cX1_odds 67 = .ok (.iload 7, 2) := dk_21 7 (dk_at dksX1_odds_2 19 rfl rfl)
theorem dX1_odds_69 : decode cX1_odds 69 = .ok (.invokestatic 585, 3) := dk_184 2 73 (dk_at dksX1_odds_2 21 rfl rfl)
theorem dX1_odds_72 : decode cX1_odds 72 = .ok (.iload_n 2, 1) := dk_28 (dk_at dksX1_odds_3 0 rfl rfl)
theorem dX1_odds_73 : decode cX1_odds 73 = .ok (.if_icmp .ge 6, 3) := dk_162 0 6 (dk_at dksX1_odds_3 1 rfl rfl)
theorem dX1_odds_76 : decode cX1_odds 76 = .ok (.goto 63, 3) := dk_167 0 63 (dk_at dksX1_odds_3 4 rfl rfl)
theorem dX1_odds_79 : decode cX1_odds 79 = .ok (.lconst 1, 1) := dk_10 (dk_at dksX1_odds_3 7 rfl rfl)
theorem dX1_odds_80 : decode cX1_odds 80 = .ok (.lstore 8, 2) := dk_55 8 (dk_at dksX1_odds_3 8 rfl rfl)
theorem dX1_odds_82 : decode cX1_odds 82 = .ok (.iconst 0, 1) := dk_3 (dk_at dksX1_odds_3 10 rfl rfl)
theorem dX1_odds_83 : decode cX1_odds 83 = .ok (.istore 10, 2) := dk_54 10 (dk_at dksX1_odds_3 11 rfl rfl)
theorem dX1_odds_85 : decode cX1_odds 85 = .ok (.iload 10, 2) := dk_21 10 (dk_at dksX1_odds_3 13 rfl rfl)
theorem dX1_odds_87 : decode cX1_odds 87 = .ok (.iload_n 1, 1) := dk_27 (dk_at dksX1_odds_3 15 rfl rfl)
theorem dX1_odds_88 : decode cX1_odds 88 = .ok (.if_icmp .ge 46, 3) := dk_162 0 46 (dk_at dksX1_odds_3 16 rfl rfl)
theorem dX1_odds_91 : decode cX1_odds 91 = .ok (.lload 8, 2) := dk_22 8 (dk_at dksX1_odds_3 19 rfl rfl)
theorem dX1_odds_93 : decode cX1_odds 93 = .ok (.iload 7, 2) := dk_21 7 (dk_at dksX1_odds_3 21 rfl rfl)
theorem dX1_odds_95 : decode cX1_odds 95 = .ok (.iload 10, 2) := dk_21 10 (dk_at dksX1_odds_4 0 rfl rfl)
theorem dX1_odds_97 : decode cX1_odds 97 = .ok (.invokestatic 128, 3) := dk_184 0 128 (dk_at dksX1_odds_4 2 rfl rfl)
theorem dX1_odds_100 : decode cX1_odds 100 = .ok (.ifCond .eq 17, 3) := dk_153 0 17 (dk_at dksX1_odds_4 5 rfl rfl)
theorem dX1_odds_103 : decode cX1_odds 103 = .ok (.bipush 100, 2) := dk_16 100 (dk_at dksX1_odds_4 8 rfl rfl)
theorem dX1_odds_105 : decode cX1_odds 105 = .ok (.aload_n 0, 1) := dk_42 (dk_at dksX1_odds_4 10 rfl rfl)
theorem dX1_odds_106 : decode cX1_odds 106 = .ok (.getfield 10, 3) := dk_180 0 10 (dk_at dksX1_odds_4 11 rfl rfl)
theorem dX1_odds_109 : decode cX1_odds 109 = .ok (.getfield 225, 3) := dk_180 0 225 (dk_at dksX1_odds_4 14 rfl rfl)
theorem dX1_odds_112 : decode cX1_odds 112 = .ok (.isub, 1) := dk_100 (dk_at dksX1_odds_4 17 rfl rfl)
theorem dX1_odds_113 : decode cX1_odds 113 = .ok (.i2l, 1) := dk_133 (dk_at dksX1_odds_4 18 rfl rfl)
theorem dX1_odds_114 : decode cX1_odds 114 = .ok (.goto 11, 3) := dk_167 0 11 (dk_at dksX1_odds_4 19 rfl rfl)
theorem dX1_odds_117 : decode cX1_odds 117 = .ok (.aload_n 0, 1) := dk_42 (dk_at dksX1_odds_4 22 rfl rfl)
theorem dX1_odds_118 : decode cX1_odds 118 = .ok (.getfield 10, 3) := dk_180 0 10 (dk_at dksX1_odds_5 0 rfl rfl)
theorem dX1_odds_121 : decode cX1_odds 121 = .ok (.getfield 225, 3) := dk_180 0 225 (dk_at dksX1_odds_5 3 rfl rfl)
theorem dX1_odds_124 : decode cX1_odds 124 = .ok (.i2l, 1) := dk_133 (dk_at dksX1_odds_5 6 rfl rfl)
theorem dX1_odds_125 : decode cX1_odds 125 = .ok (.lmul, 1) := dk_105 (dk_at dksX1_odds_5 7 rfl rfl)
theorem dX1_odds_126 : decode cX1_odds 126 = .ok (.lstore 8, 2) := dk_55 8 (dk_at dksX1_odds_5 8 rfl rfl)
theorem dX1_odds_128 : decode cX1_odds 128 = .ok (.iinc 10 1, 3) := dk_132 10 1 (dk_at dksX1_odds_5 10 rfl rfl)
theorem dX1_odds_131 : decode cX1_odds 131 = .ok (.goto (-46), 3) := dk_167 255 210 (dk_at dksX1_odds_5 13 rfl rfl)
theorem dX1_odds_134 : decode cX1_odds 134 = .ok (.lload_n 3, 1) := dk_33 (dk_at dksX1_odds_5 16 rfl rfl)
theorem dX1_odds_135 : decode cX1_odds 135 = .ok (.lload 8, 2) := dk_22 8 (dk_at dksX1_odds_5 17 rfl rfl)
theorem dX1_odds_137 : decode cX1_odds 137 = .ok (.ladd, 1) := dk_97 (dk_at dksX1_odds_5 19 rfl rfl)
theorem dX1_odds_138 : decode cX1_odds 138 = .ok (.lstore_n 3, 1) := dk_66 (dk_at dksX1_odds_5 20 rfl rfl)
theorem dX1_odds_139 : decode cX1_odds 139 = .ok (.iinc 7 1, 3) := dk_132 7 1 (dk_at dksX1_odds_5 21 rfl rfl)
theorem dX1_odds_142 : decode cX1_odds 142 = .ok (.goto (-83), 3) := dk_167 255 173 (dk_at dksX1_odds_6 0 rfl rfl)
theorem dX1_odds_145 : decode cX1_odds 145 = .ok (.ldc2_w 628, 3) := dk_20 2 116 (dk_at dksX1_odds_6 3 rfl rfl)
theorem dX1_odds_148 : decode cX1_odds 148 = .ok (.lload_n 3, 1) := dk_33 (dk_at dksX1_odds_6 6 rfl rfl)
theorem dX1_odds_149 : decode cX1_odds 149 = .ok (.lmul, 1) := dk_105 (dk_at dksX1_odds_6 7 rfl rfl)
theorem dX1_odds_150 : decode cX1_odds 150 = .ok (.lload 5, 2) := dk_22 5 (dk_at dksX1_odds_6 8 rfl rfl)
theorem dX1_odds_152 : decode cX1_odds 152 = .ok (.ldiv, 1) := dk_109 (dk_at dksX1_odds_6 10 rfl rfl)
theorem dX1_odds_153 : decode cX1_odds 153 = .ok (.l2i, 1) := dk_136 (dk_at dksX1_odds_6 11 rfl rfl)
theorem dX1_odds_154 : decode cX1_odds 154 = .ok (.ireturn, 1) := dk_172 (dk_at dksX1_odds_6 12 rfl rfl)
abbrev cX1_waits : ByteArray := prog_1_method_92_code
def yX1_waits : MethodName := ⟨RX1, "waits", "(II)I"⟩
def dkwX1_waits_2 : List UInt8 := [132, 7, 1, 167, 255, 228, 22, 5, 33, 101, 22, 5, 184, 2, 118, 172]
abbrev dktX1_waits_2 : List UInt8 := dkwX1_waits_2 ++ []
def dkwX1_waits_1 : List UInt8 := [27, 162, 0, 28, 33, 42, 180, 0, 10, 180, 0, 225, 133, 105, 66, 22, 5, 20, 2, 114, 105, 55, 5]
abbrev dktX1_waits_1 : List UInt8 := dkwX1_waits_1 ++ dktX1_waits_2
def dkwX1_waits_0 : List UInt8 := [28, 184, 1, 239, 27, 3, 16, 8, 184, 0, 124, 184, 1, 242, 10, 66, 10, 55, 5, 3, 54, 7, 21, 7]
abbrev dktX1_waits_0 : List UInt8 := dkwX1_waits_0 ++ dktX1_waits_1
theorem dksX1_waits_0 : cX1_waits.data.toList.drop 0 = dktX1_waits_0 := by decide +kernel
theorem dksX1_waits_1 : cX1_waits.data.toList.drop 24 = dktX1_waits_1 := dk_seg dksX1_waits_0 24 rfl rfl
theorem dksX1_waits_2 : cX1_waits.data.toList.drop 47 = dktX1_waits_2 := dk_seg dksX1_waits_1 23 rfl rfl
theorem dX1_waits_0 : decode cX1_waits 0 = .ok (.iload_n 2, 1) := dk_28 (dk_at dksX1_waits_0 0 rfl rfl)
theorem dX1_waits_1 : decode cX1_waits 1 = .ok (.invokestatic 495, 3) := dk_184 1 239 (dk_at dksX1_waits_0 1 rfl rfl)
theorem dX1_waits_4 : decode cX1_waits 4 = .ok (.iload_n 1, 1) := dk_27 (dk_at dksX1_waits_0 4 rfl rfl)
theorem dX1_waits_5 : decode cX1_waits 5 = .ok (.iconst 0, 1) := dk_3 (dk_at dksX1_waits_0 5 rfl rfl)
theorem dX1_waits_6 : decode cX1_waits 6 = .ok (.bipush 8, 2) := dk_16 8 (dk_at dksX1_waits_0 6 rfl rfl)
theorem dX1_waits_8 : decode cX1_waits 8 = .ok (.invokestatic 124, 3) := dk_184 0 124 (dk_at dksX1_waits_0 8 rfl rfl)
theorem dX1_waits_11 : decode cX1_waits 11 = .ok (.invokestatic 498, 3) := dk_184 1 242 (dk_at dksX1_waits_0 11 rfl rfl)
theorem dX1_waits_14 : decode cX1_waits 14 = .ok (.lconst 1, 1) := dk_10 (dk_at dksX1_waits_0 14 rfl rfl)
theorem dX1_waits_15 : decode cX1_waits 15 = .ok (.lstore_n 3, 1) := dk_66 (dk_at dksX1_waits_0 15 rfl rfl)
theorem dX1_waits_16 : decode cX1_waits 16 = .ok (.lconst 1, 1) := dk_10 (dk_at dksX1_waits_0 16 rfl rfl)
theorem dX1_waits_17 : decode cX1_waits 17 = .ok (.lstore 5, 2) := dk_55 5 (dk_at dksX1_waits_0 17 rfl rfl)
theorem dX1_waits_19 : decode cX1_waits 19 = .ok (.iconst 0, 1) := dk_3 (dk_at dksX1_waits_0 19 rfl rfl)
theorem dX1_waits_20 : decode cX1_waits 20 = .ok (.istore 7, 2) := dk_54 7 (dk_at dksX1_waits_0 20 rfl rfl)
theorem dX1_waits_22 : decode cX1_waits 22 = .ok (.iload 7, 2) := dk_21 7 (dk_at dksX1_waits_0 22 rfl rfl)
theorem dX1_waits_24 : decode cX1_waits 24 = .ok (.iload_n 1, 1) := dk_27 (dk_at dksX1_waits_1 0 rfl rfl)
theorem dX1_waits_25 : decode cX1_waits 25 = .ok (.if_icmp .ge 28, 3) := dk_162 0 28 (dk_at dksX1_waits_1 1 rfl rfl)
theorem dX1_waits_28 : decode cX1_waits 28 = .ok (.lload_n 3, 1) := dk_33 (dk_at dksX1_waits_1 4 rfl rfl)
theorem dX1_waits_29 : decode cX1_waits 29 = .ok (.aload_n 0, 1) := dk_42 (dk_at dksX1_waits_1 5 rfl rfl)
theorem dX1_waits_30 : decode cX1_waits 30 = .ok (.getfield 10, 3) := dk_180 0 10 (dk_at dksX1_waits_1 6 rfl rfl)
theorem dX1_waits_33 : decode cX1_waits 33 = .ok (.getfield 225, 3) := dk_180 0 225 (dk_at dksX1_waits_1 9 rfl rfl)
theorem dX1_waits_36 : decode cX1_waits 36 = .ok (.i2l, 1) := dk_133 (dk_at dksX1_waits_1 12 rfl rfl)
theorem dX1_waits_37 : decode cX1_waits 37 = .ok (.lmul, 1) := dk_105 (dk_at dksX1_waits_1 13 rfl rfl)
theorem dX1_waits_38 : decode cX1_waits 38 = .ok (.lstore_n 3, 1) := dk_66 (dk_at dksX1_waits_1 14 rfl rfl)
theorem dX1_waits_39 : decode cX1_waits 39 = .ok (.lload 5, 2) := dk_22 5 (dk_at dksX1_waits_1 15 rfl rfl)
theorem dX1_waits_41 : decode cX1_waits 41 = .ok (.ldc2_w 626, 3) := dk_20 2 114 (dk_at dksX1_waits_1 17 rfl rfl)
theorem dX1_waits_44 : decode cX1_waits 44 = .ok (.lmul, 1) := dk_105 (dk_at dksX1_waits_1 20 rfl rfl)
theorem dX1_waits_45 : decode cX1_waits 45 = .ok (.lstore 5, 2) := dk_55 5 (dk_at dksX1_waits_1 21 rfl rfl)
theorem dX1_waits_47 : decode cX1_waits 47 = .ok (.iinc 7 1, 3) := dk_132 7 1 (dk_at dksX1_waits_2 0 rfl rfl)
theorem dX1_waits_50 : decode cX1_waits 50 = .ok (.goto (-28), 3) := dk_167 255 228 (dk_at dksX1_waits_2 3 rfl rfl)
theorem dX1_waits_53 : decode cX1_waits 53 = .ok (.lload 5, 2) := dk_22 5 (dk_at dksX1_waits_2 6 rfl rfl)
theorem dX1_waits_55 : decode cX1_waits 55 = .ok (.lload_n 3, 1) := dk_33 (dk_at dksX1_waits_2 8 rfl rfl)
theorem dX1_waits_56 : decode cX1_waits 56 = .ok (.lsub, 1) := dk_101 (dk_at dksX1_waits_2 9 rfl rfl)
theorem dX1_waits_57 : decode cX1_waits 57 = .ok (.lload 5, 2) := dk_22 5 (dk_at dksX1_waits_2 10 rfl rfl)
theorem dX1_waits_59 : decode cX1_waits 59 = .ok (.invokestatic 630, 3) := dk_184 2 118 (dk_at dksX1_waits_2 12 rfl rfl)
theorem dX1_waits_62 : decode cX1_waits 62 = .ok (.ireturn, 1) := dk_172 (dk_at dksX1_waits_2 15 rfl rfl)
abbrev cX1_tenThousandths : ByteArray := prog_1_method_93_code
def yX1_tenThousandths : MethodName := ⟨RX1, "tenThousandths", "(JJ)I"⟩
def dkwX1_tenThousandths_2 : List UInt8 := [132, 8, 1, 167, 255, 220, 22, 4, 136, 172]
abbrev dktX1_tenThousandths_2 : List UInt8 := dkwX1_tenThousandths_2 ++ []
def dkwX1_tenThousandths_1 : List UInt8 := [105, 55, 6, 20, 2, 122, 22, 4, 105, 22, 6, 32, 109, 97, 55, 4, 22, 6, 32, 113, 55, 6]
abbrev dktX1_tenThousandths_1 : List UInt8 := dkwX1_tenThousandths_1 ++ dktX1_tenThousandths_2
def dkwX1_tenThousandths_0 : List UInt8 := [30, 32, 109, 55, 4, 30, 32, 113, 55, 6, 3, 54, 8, 21, 8, 7, 162, 0, 36, 22, 6, 20, 2, 122]
abbrev dktX1_tenThousandths_0 : List UInt8 := dkwX1_tenThousandths_0 ++ dktX1_tenThousandths_1
theorem dksX1_tenThousandths_0 : cX1_tenThousandths.data.toList.drop 0 = dktX1_tenThousandths_0 := by decide +kernel
theorem dksX1_tenThousandths_1 : cX1_tenThousandths.data.toList.drop 24 = dktX1_tenThousandths_1 := dk_seg dksX1_tenThousandths_0 24 rfl rfl
theorem dksX1_tenThousandths_2 : cX1_tenThousandths.data.toList.drop 46 = dktX1_tenThousandths_2 := dk_seg dksX1_tenThousandths_1 22 rfl rfl
theorem dX1_tenThousandths_0 : decode cX1_tenThousandths 0 = .ok (.lload_n 0, 1) := dk_30 (dk_at dksX1_tenThousandths_0 0 rfl rfl)
theorem dX1_tenThousandths_1 : decode cX1_tenThousandths 1 = .ok (.lload_n 2, 1) := dk_32 (dk_at dksX1_tenThousandths_0 1 rfl rfl)
theorem dX1_tenThousandths_2 : decode cX1_tenThousandths 2 = .ok (.ldiv, 1) := dk_109 (dk_at dksX1_tenThousandths_0 2 rfl rfl)
theorem dX1_tenThousandths_3 : decode cX1_tenThousandths 3 = .ok (.lstore 4, 2) := dk_55 4 (dk_at dksX1_tenThousandths_0 3 rfl rfl)
theorem dX1_tenThousandths_5 : decode cX1_tenThousandths 5 = .ok (.lload_n 0, 1) := dk_30 (dk_at dksX1_tenThousandths_0 5 rfl rfl)
theorem dX1_tenThousandths_6 : decode cX1_tenThousandths 6 = .ok (.lload_n 2, 1) := dk_32 (dk_at dksX1_tenThousandths_0 6 rfl rfl)
theorem dX1_tenThousandths_7 : decode cX1_tenThousandths 7 = .ok (.lrem, 1) := dk_113 (dk_at dksX1_tenThousandths_0 7 rfl rfl)
theorem dX1_tenThousandths_8 : decode cX1_tenThousandths 8 = .ok (.lstore 6, 2) := dk_55 6 (dk_at dksX1_tenThousandths_0 8 rfl rfl)
theorem dX1_tenThousandths_10 : decode cX1_tenThousandths 10 = .ok (.iconst 0, 1) := dk_3 (dk_at dksX1_tenThousandths_0 10 rfl rfl)
theorem dX1_tenThousandths_11 : decode cX1_tenThousandths 11 = .ok (.istore 8, 2) := dk_54 8 (dk_at dksX1_tenThousandths_0 11 rfl rfl)
theorem dX1_tenThousandths_13 : decode cX1_tenThousandths 13 = .ok (.iload 8, 2) := dk_21 8 (dk_at dksX1_tenThousandths_0 13 rfl rfl)
theorem dX1_tenThousandths_15 : decode cX1_tenThousandths 15 = .ok (.iconst 4, 1) := dk_7 (dk_at dksX1_tenThousandths_0 15 rfl rfl)
theorem dX1_tenThousandths_16 : decode cX1_tenThousandths 16 = .ok (.if_icmp .ge 36, 3) := dk_162 0 36 (dk_at dksX1_tenThousandths_0 16 rfl rfl)
theorem dX1_tenThousandths_19 : decode cX1_tenThousandths 19 = .ok (.lload 6, 2) := dk_22 6 (dk_at dksX1_tenThousandths_0 19 rfl rfl)
theorem dX1_tenThousandths_21 : decode cX1_tenThousandths 21 = .ok (.ldc2_w 634, 3) := dk_20 2 122 (dk_at dksX1_tenThousandths_0 21 rfl rfl)
theorem dX1_tenThousandths_24 : decode cX1_tenThousandths 24 = .ok (.lmul, 1) := dk_105 (dk_at dksX1_tenThousandths_1 0 rfl rfl)
theorem dX1_tenThousandths_25 : decode cX1_tenThousandths 25 = .ok (.lstore 6, 2) := dk_55 6 (dk_at dksX1_tenThousandths_1 1 rfl rfl)
theorem dX1_tenThousandths_27 : decode cX1_tenThousandths 27 = .ok (.ldc2_w 634, 3) := dk_20 2 122 (dk_at dksX1_tenThousandths_1 3 rfl rfl)
theorem dX1_tenThousandths_30 : decode cX1_tenThousandths 30 = .ok (.lload 4, 2) := dk_22 4 (dk_at dksX1_tenThousandths_1 6 rfl rfl)
theorem dX1_tenThousandths_32 : decode cX1_tenThousandths 32 = .ok (.lmul, 1) := dk_105 (dk_at dksX1_tenThousandths_1 8 rfl rfl)
theorem dX1_tenThousandths_33 : decode cX1_tenThousandths 33 = .ok (.lload 6, 2) := dk_22 6 (dk_at dksX1_tenThousandths_1 9 rfl rfl)
theorem dX1_tenThousandths_35 : decode cX1_tenThousandths 35 = .ok (.lload_n 2, 1) := dk_32 (dk_at dksX1_tenThousandths_1 11 rfl rfl)
theorem dX1_tenThousandths_36 : decode cX1_tenThousandths 36 = .ok (.ldiv, 1) := dk_109 (dk_at dksX1_tenThousandths_1 12 rfl rfl)
theorem dX1_tenThousandths_37 : decode cX1_tenThousandths 37 = .ok (.ladd, 1) := dk_97 (dk_at dksX1_tenThousandths_1 13 rfl rfl)
theorem dX1_tenThousandths_38 : decode cX1_tenThousandths 38 = .ok (.lstore 4, 2) := dk_55 4 (dk_at dksX1_tenThousandths_1 14 rfl rfl)
theorem dX1_tenThousandths_40 : decode cX1_tenThousandths 40 = .ok (.lload 6, 2) := dk_22 6 (dk_at dksX1_tenThousandths_1 16 rfl rfl)
theorem dX1_tenThousandths_42 : decode cX1_tenThousandths 42 = .ok (.lload_n 2, 1) := dk_32 (dk_at dksX1_tenThousandths_1 18 rfl rfl)
theorem dX1_tenThousandths_43 : decode cX1_tenThousandths 43 = .ok (.lrem, 1) := dk_113 (dk_at dksX1_tenThousandths_1 19 rfl rfl)
theorem dX1_tenThousandths_44 : decode cX1_tenThousandths 44 = .ok (.lstore 6, 2) := dk_55 6 (dk_at dksX1_tenThousandths_1 20 rfl rfl)
theorem dX1_tenThousandths_46 : decode cX1_tenThousandths 46 = .ok (.iinc 8 1, 3) := dk_132 8 1 (dk_at dksX1_tenThousandths_2 0 rfl rfl)
theorem dX1_tenThousandths_49 : decode cX1_tenThousandths 49 = .ok (.goto (-36), 3) := dk_167 255 220 (dk_at dksX1_tenThousandths_2 3 rfl rfl)
theorem dX1_tenThousandths_52 : decode cX1_tenThousandths 52 = .ok (.lload 4, 2) := dk_22 4 (dk_at dksX1_tenThousandths_2 6 rfl rfl)
theorem dX1_tenThousandths_54 : decode cX1_tenThousandths 54 = .ok (.l2i, 1) := dk_136 (dk_at dksX1_tenThousandths_2 8 rfl rfl)
theorem dX1_tenThousandths_55 : decode cX1_tenThousandths 55 = .ok (.ireturn, 1) := dk_172 (dk_at dksX1_tenThousandths_2 9 rfl rfl)
abbrev cX1_treaty : ByteArray := prog_1_method_99_code
def yX1_treaty : MethodName := ⟨RX1, "treaty", "(II)I"⟩
def dkwX1_treaty_4 : List UInt8 := [167, 255, 188, 29, 172]
abbrev dktX1_treaty_4 : List UInt8 := dkwX1_treaty_4 ++ []
def dkwX1_treaty_3 : List UInt8 := [21, 7, 104, 21, 4, 163, 0, 6, 167, 0, 13, 21, 5, 62, 21, 6, 21, 7, 104, 54, 4, 132, 5, 1]
abbrev dktX1_treaty_3 : List UInt8 := dkwX1_treaty_3 ++ dktX1_treaty_4
def dkwX1_treaty_2 : List UInt8 := [16, 8, 21, 5, 100, 182, 2, 133, 5, 100, 54, 7, 21, 6, 155, 0, 31, 21, 7, 155, 0, 26, 21, 6]
abbrev dktX1_treaty_2 : List UInt8 := dkwX1_treaty_2 ++ dktX1_treaty_3
def dkwX1_treaty_1 : List UInt8 := [3, 54, 5, 21, 5, 16, 8, 163, 0, 67, 42, 27, 21, 5, 182, 2, 133, 5, 100, 54, 6, 42, 28]
abbrev dktX1_treaty_1 : List UInt8 := dkwX1_treaty_1 ++ dktX1_treaty_2
def dkwX1_treaty_0 : List UInt8 := [42, 27, 28, 182, 2, 24, 27, 28, 159, 0, 7, 4, 167, 0, 4, 3, 184, 1, 242, 2, 62, 2, 54, 4]
abbrev dktX1_treaty_0 : List UInt8 := dkwX1_treaty_0 ++ dktX1_treaty_1
theorem dksX1_treaty_0 : cX1_treaty.data.toList.drop 0 = dktX1_treaty_0 := by decide +kernel
theorem dksX1_treaty_1 : cX1_treaty.data.toList.drop 24 = dktX1_treaty_1 := dk_seg dksX1_treaty_0 24 rfl rfl
theorem dksX1_treaty_2 : cX1_treaty.data.toList.drop 47 = dktX1_treaty_2 := dk_seg dksX1_treaty_1 23 rfl rfl
theorem dksX1_treaty_3 : cX1_treaty.data.toList.drop 71 = dktX1_treaty_3 := dk_seg dksX1_treaty_2 24 rfl rfl
theorem dksX1_treaty_4 : cX1_treaty.data.toList.drop 95 = dktX1_treaty_4 := dk_seg dksX1_treaty_3 24 rfl rfl
theorem dX1_treaty_0 : decode cX1_treaty 0 = .ok (.aload_n 0, 1) := dk_42 (dk_at dksX1_treaty_0 0 rfl rfl)
theorem dX1_treaty_1 : decode cX1_treaty 1 = .ok (.iload_n 1, 1) := dk_27 (dk_at dksX1_treaty_0 1 rfl rfl)
theorem dX1_treaty_2 : decode cX1_treaty 2 = .ok (.iload_n 2, 1) := dk_28 (dk_at dksX1_treaty_0 2 rfl rfl)
theorem dX1_treaty_3 : decode cX1_treaty 3 = .ok (.invokevirtual 536, 3) := dk_182 2 24 (dk_at dksX1_treaty_0 3 rfl rfl)
theorem dX1_treaty_6 : decode cX1_treaty 6 = .ok (.iload_n 1, 1) := dk_27 (dk_at dksX1_treaty_0 6 rfl rfl)
theorem dX1_treaty_7 : decode cX1_treaty 7 = .ok (.iload_n 2, 1) := dk_28 (dk_at dksX1_treaty_0 7 rfl rfl)
theorem dX1_treaty_8 : decode cX1_treaty 8 = .ok (.if_icmp .eq 7, 3) := dk_159 0 7 (dk_at dksX1_treaty_0 8 rfl rfl)
theorem dX1_treaty_11 : decode cX1_treaty 11 = .ok (.iconst 1, 1) := dk_4 (dk_at dksX1_treaty_0 11 rfl rfl)
theorem dX1_treaty_12 : decode cX1_treaty 12 = .ok (.goto 4, 3) := dk_167 0 4 (dk_at dksX1_treaty_0 12 rfl rfl)
theorem dX1_treaty_15 : decode cX1_treaty 15 = .ok (.iconst 0, 1) := dk_3 (dk_at dksX1_treaty_0 15 rfl rfl)
theorem dX1_treaty_16 : decode cX1_treaty 16 = .ok (.invokestatic 498, 3) := dk_184 1 242 (dk_at dksX1_treaty_0 16 rfl rfl)
theorem dX1_treaty_19 : decode cX1_treaty 19 = .ok (.iconst (-1), 1) := dk_2 (dk_at dksX1_treaty_0 19 rfl rfl)
theorem dX1_treaty_20 : decode cX1_treaty 20 = .ok (.istore_n 3, 1) := dk_62 (dk_at dksX1_treaty_0 20 rfl rfl)
theorem dX1_treaty_21 : decode cX1_treaty 21 = .ok (.iconst (-1), 1) := dk_2 (dk_at dksX1_treaty_0 21 rfl rfl)
theorem dX1_treaty_22 : decode cX1_treaty 22 = .ok (.istore 4, 2) := dk_54 4 (dk_at dksX1_treaty_0 22 rfl rfl)
theorem dX1_treaty_24 : decode cX1_treaty 24 = .ok (.iconst 0, 1) := dk_3 (dk_at dksX1_treaty_1 0 rfl rfl)
theorem dX1_treaty_25 : decode cX1_treaty 25 = .ok (.istore 5, 2) := dk_54 5 (dk_at dksX1_treaty_1 1 rfl rfl)
theorem dX1_treaty_27 : decode cX1_treaty 27 = .ok (.iload 5, 2) := dk_21 5 (dk_at dksX1_treaty_1 3 rfl rfl)
theorem dX1_treaty_29 : decode cX1_treaty 29 = .ok (.bipush 8, 2) := dk_16 8 (dk_at dksX1_treaty_1 5 rfl rfl)
theorem dX1_treaty_31 : decode cX1_treaty 31 = .ok (.if_icmp .gt 67, 3) := dk_163 0 67 (dk_at dksX1_treaty_1 7 rfl rfl)
theorem dX1_treaty_34 : decode cX1_treaty 34 = .ok (.aload_n 0, 1) := dk_42 (dk_at dksX1_treaty_1 10 rfl rfl)
theorem dX1_treaty_35 : decode cX1_treaty 35 = .ok (.iload_n 1, 1) := dk_27 (dk_at dksX1_treaty_1 11 rfl rfl)
theorem dX1_treaty_36 : decode cX1_treaty 36 = .ok (.iload 5, 2) := dk_21 5 (dk_at dksX1_treaty_1 12 rfl rfl)
theorem dX1_treaty_38 : decode cX1_treaty 38 = .ok (.invokevirtual 645, 3) := dk_182 2 133 (dk_at dksX1_treaty_1 14 rfl rfl)
theorem dX1_treaty_41 : decode cX1_treaty 41 = .ok (.iconst 2, 1) := dk_5 (dk_at dksX1_treaty_1 17 rfl rfl)
theorem dX1_treaty_42 : decode cX1_treaty 42 = .ok (.isub, 1) := dk_100 (dk_at dksX1_treaty_1 18 rfl rfl)
theorem dX1_treaty_43 : decode cX1_treaty 43 = .ok (.istore 6, 2) := dk_54 6 (dk_at dksX1_treaty_1 19 rfl rfl)
theorem dX1_treaty_45 : decode cX1_treaty 45 = .ok (.aload_n 0, 1) := dk_42 (dk_at dksX1_treaty_1 21 rfl rfl)
theorem dX1_treaty_46 : decode cX1_treaty 46 = .ok (.iload_n 2, 1) := dk_28 (dk_at dksX1_treaty_1 22 rfl rfl)
theorem dX1_treaty_47 : decode cX1_treaty 47 = .ok (.bipush 8, 2) := dk_16 8 (dk_at dksX1_treaty_2 0 rfl rfl)
theorem dX1_treaty_49 : decode cX1_treaty 49 = .ok (.iload 5, 2) := dk_21 5 (dk_at dksX1_treaty_2 2 rfl rfl)
theorem dX1_treaty_51 : decode cX1_treaty 51 = .ok (.isub, 1) := dk_100 (dk_at dksX1_treaty_2 4 rfl rfl)
theorem dX1_treaty_52 : decode cX1_treaty 52 = .ok (.invokevirtual 645, 3) := dk_182 2 133 (dk_at dksX1_treaty_2 5 rfl rfl)
theorem dX1_treaty_55 : decode cX1_treaty 55 = .ok (.iconst 2, 1) := dk_5 (dk_at dksX1_treaty_2 8 rfl rfl)
theorem dX1_treaty_56 : decode cX1_treaty 56 = .ok (.isub, 1) := dk_100 (dk_at dksX1_treaty_2 9 rfl rfl)
theorem dX1_treaty_57 : decode cX1_treaty 57 = .ok (.istore 7, 2) := dk_54 7 (dk_at dksX1_treaty_2 10 rfl rfl)
theorem dX1_treaty_59 : decode cX1_treaty 59 = .ok (.iload 6, 2) := dk_21 6 (dk_at dksX1_treaty_2 12 rfl rfl)
theorem dX1_treaty_61 : decode cX1_treaty 61 = .ok (.ifCond .lt 31, 3) := dk_155 0 31 (dk_at dksX1_treaty_2 14 rfl rfl)
theorem dX1_treaty_64 : decode cX1_treaty 64 = .ok (.iload 7, 2) := dk_21 7 (dk_at dksX1_treaty_2 17 rfl rfl)
theorem dX1_treaty_66 : decode cX1_treaty 66 = .ok (.ifCond .lt 26, 3) := dk_155 0 26 (dk_at dksX1_treaty_2 19 rfl rfl)
theorem dX1_treaty_69 : decode cX1_treaty 69 = .ok (.iload 6, 2) := dk_21 6 (dk_at dksX1_treaty_2 22 rfl rfl)
theorem dX1_treaty_71 : decode cX1_treaty 71 = .ok (.iload 7, 2) := dk_21 7 (dk_at dksX1_treaty_3 0 rfl rfl)
theorem dX1_treaty_73 : decode cX1_treaty 73 = .ok (.imul, 1) := dk_104 (dk_at dksX1_treaty_3 2 rfl rfl)
theorem dX1_treaty_74 : decode cX1_treaty 74 = .ok (.iload 4, 2) := dk_21 4 (dk_at dksX1_treaty_3 3 rfl rfl)
theorem dX1_treaty_76 : decode cX1_treaty 76 = .ok (.if_icmp .gt 6, 3) := dk_163 0 6 (dk_at dksX1_treaty_3 5 rfl rfl)
theorem dX1_treaty_79 : decode cX1_treaty 79 = .ok (.goto 13, 3) := dk_167 0 13 (dk_at dksX1_treaty_3 8 rfl rfl)
theorem dX1_treaty_82 : decode cX1_treaty 82 = .ok (.iload 5, 2) := dk_21 5 (dk_at dksX1_treaty_3 11 rfl rfl)
theorem dX1_treaty_84 : decode cX1_treaty 84 = .ok (.istore_n 3, 1) := dk_62 (dk_at dksX1_treaty_3 13 rfl rfl)
theorem dX1_treaty_85 : decode cX1_treaty 85 = .ok (.iload 6, 2) := dk_21 6 (dk_at dksX1_treaty_3 14 rfl rfl)
theorem dX1_treaty_87 : decode cX1_treaty 87 = .ok (.iload 7, 2) := dk_21 7 (dk_at dksX1_treaty_3 16 rfl rfl)
theorem dX1_treaty_89 : decode cX1_treaty 89 = .ok (.imul, 1) := dk_104 (dk_at dksX1_treaty_3 18 rfl rfl)
theorem dX1_treaty_90 : decode cX1_treaty 90 = .ok (.istore 4, 2) := dk_54 4 (dk_at dksX1_treaty_3 19 rfl rfl)
theorem dX1_treaty_92 : decode cX1_treaty 92 = .ok (.iinc 5 1, 3) := dk_132 5 1 (dk_at dksX1_treaty_3 21 rfl rfl)
theorem dX1_treaty_95 : decode cX1_treaty 95 = .ok (.goto (-68), 3) := dk_167 255 188 (dk_at dksX1_treaty_4 0 rfl rfl)
theorem dX1_treaty_98 : decode cX1_treaty 98 = .ok (.iload_n 3, 1) := dk_29 (dk_at dksX1_treaty_4 3 rfl rfl)
theorem dX1_treaty_99 : decode cX1_treaty 99 = .ok (.ireturn, 1) := dk_172 (dk_at dksX1_treaty_4 4 rfl rfl)
abbrev cX1_hasBy : ByteArray := prog_1_method_98_code
def yX1_hasBy : MethodName := ⟨RX1, "hasBy", "(II)I"⟩
def dkwX1_hasBy_1 : List UInt8 := [184, 2, 73, 164, 0, 7, 7, 167, 0, 4, 3, 100, 172]
abbrev dktX1_hasBy_1 : List UInt8 := dkwX1_hasBy_1 ++ []
def dkwX1_hasBy_0 : List UInt8 := [42, 180, 0, 10, 180, 0, 135, 27, 46, 4, 96, 28, 104, 28, 42, 180, 0, 10, 180, 0, 139, 27, 46]
abbrev dktX1_hasBy_0 : List UInt8 := dkwX1_hasBy_0 ++ dktX1_hasBy_1
theorem dksX1_hasBy_0 : cX1_hasBy.data.toList.drop 0 = dktX1_hasBy_0 := by decide +kernel
theorem dksX1_hasBy_1 : cX1_hasBy.data.toList.drop 23 = dktX1_hasBy_1 := dk_seg dksX1_hasBy_0 23 rfl rfl
theorem dX1_hasBy_0 : decode cX1_hasBy 0 = .ok (.aload_n 0, 1) := dk_42 (dk_at dksX1_hasBy_0 0 rfl rfl)
theorem dX1_hasBy_1 : decode cX1_hasBy 1 = .ok (.getfield 10, 3) := dk_180 0 10 (dk_at dksX1_hasBy_0 1 rfl rfl)
theorem dX1_hasBy_4 : decode cX1_hasBy 4 = .ok (.getfield 135, 3) := dk_180 0 135 (dk_at dksX1_hasBy_0 4 rfl rfl)
theorem dX1_hasBy_7 : decode cX1_hasBy 7 = .ok (.iload_n 1, 1) := dk_27 (dk_at dksX1_hasBy_0 7 rfl rfl)
theorem dX1_hasBy_8 : decode cX1_hasBy 8 = .ok (.iaload, 1) := dk_46 (dk_at dksX1_hasBy_0 8 rfl rfl)
theorem dX1_hasBy_9 : decode cX1_hasBy 9 = .ok (.iconst 1, 1) := dk_4 (dk_at dksX1_hasBy_0 9 rfl rfl)
theorem dX1_hasBy_10 : decode cX1_hasBy 10 = .ok (.iadd, 1) := dk_96 (dk_at dksX1_hasBy_0 10 rfl rfl)
theorem dX1_hasBy_11 : decode cX1_hasBy 11 = .ok (.iload_n 2, 1) := dk_28 (dk_at dksX1_hasBy_0 11 rfl rfl)
theorem dX1_hasBy_12 : decode cX1_hasBy 12 = .ok (.imul, 1) := dk_104 (dk_at dksX1_hasBy_0 12 rfl rfl)
theorem dX1_hasBy_13 : decode cX1_hasBy 13 = .ok (.iload_n 2, 1) := dk_28 (dk_at dksX1_hasBy_0 13 rfl rfl)
theorem dX1_hasBy_14 : decode cX1_hasBy 14 = .ok (.aload_n 0, 1) := dk_42 (dk_at dksX1_hasBy_0 14 rfl rfl)
theorem dX1_hasBy_15 : decode cX1_hasBy 15 = .ok (.getfield 10, 3) := dk_180 0 10 (dk_at dksX1_hasBy_0 15 rfl rfl)
theorem dX1_hasBy_18 : decode cX1_hasBy 18 = .ok (.getfield 139, 3) := dk_180 0 139 (dk_at dksX1_hasBy_0 18 rfl rfl)
theorem dX1_hasBy_21 : decode cX1_hasBy 21 = .ok (.iload_n 1, 1) := dk_27 (dk_at dksX1_hasBy_0 21 rfl rfl)
theorem dX1_hasBy_22 : decode cX1_hasBy 22 = .ok (.iaload, 1) := dk_46 (dk_at dksX1_hasBy_0 22 rfl rfl)
theorem dX1_hasBy_23 : decode cX1_hasBy 23 = .ok (.invokestatic 585, 3) := dk_184 2 73 (dk_at dksX1_hasBy_1 0 rfl rfl)
theorem dX1_hasBy_26 : decode cX1_hasBy 26 = .ok (.if_icmp .le 7, 3) := dk_164 0 7 (dk_at dksX1_hasBy_1 3 rfl rfl)
theorem dX1_hasBy_29 : decode cX1_hasBy 29 = .ok (.iconst 4, 1) := dk_7 (dk_at dksX1_hasBy_1 6 rfl rfl)
theorem dX1_hasBy_30 : decode cX1_hasBy 30 = .ok (.goto 4, 3) := dk_167 0 4 (dk_at dksX1_hasBy_1 7 rfl rfl)
theorem dX1_hasBy_33 : decode cX1_hasBy 33 = .ok (.iconst 0, 1) := dk_3 (dk_at dksX1_hasBy_1 10 rfl rfl)
theorem dX1_hasBy_34 : decode cX1_hasBy 34 = .ok (.isub, 1) := dk_100 (dk_at dksX1_hasBy_1 11 rfl rfl)
theorem dX1_hasBy_35 : decode cX1_hasBy 35 = .ok (.ireturn, 1) := dk_172 (dk_at dksX1_hasBy_1 12 rfl rfl)
abbrev cX1_rests : ByteArray := prog_1_method_102_code
def yX1_rests : MethodName := ⟨RX1, "rests", "(II)I"⟩
def dkwX1_rests_4 : List UInt8 := [132, 4, 1, 167, 255, 176, 29, 172]
abbrev dktX1_rests_4 : List UInt8 := dkwX1_rests_4 ++ []
def dkwX1_rests_3 : List UInt8 := [182, 2, 139, 161, 0, 15, 29, 4, 5, 21, 4, 104, 21, 5, 96, 120, 128, 62, 132, 5, 1, 167, 255, 191]
abbrev dktX1_rests_3 : List UInt8 := dkwX1_rests_3 ++ dktX1_rests_4
def dkwX1_rests_2 : List UInt8 := [161, 0, 40, 42, 27, 28, 21, 4, 21, 5, 182, 2, 139, 42, 27, 28, 21, 4, 4, 21, 5, 100]
abbrev dktX1_rests_2 : List UInt8 := dkwX1_rests_2 ++ dktX1_rests_3
def dkwX1_rests_1 : List UInt8 := [21, 5, 5, 162, 0, 65, 21, 4, 21, 5, 184, 2, 136, 4, 21, 4, 100, 21, 5, 184, 2, 136]
abbrev dktX1_rests_1 : List UInt8 := dkwX1_rests_1 ++ dktX1_rests_2
def dkwX1_rests_0 : List UInt8 := [42, 27, 182, 1, 233, 42, 28, 182, 1, 236, 3, 62, 3, 54, 4, 21, 4, 5, 162, 0, 80, 3, 54, 5]
abbrev dktX1_rests_0 : List UInt8 := dkwX1_rests_0 ++ dktX1_rests_1
theorem dksX1_rests_0 : cX1_rests.data.toList.drop 0 = dktX1_rests_0 := by decide +kernel
theorem dksX1_rests_1 : cX1_rests.data.toList.drop 24 = dktX1_rests_1 := dk_seg dksX1_rests_0 24 rfl rfl
theorem dksX1_rests_2 : cX1_rests.data.toList.drop 46 = dktX1_rests_2 := dk_seg dksX1_rests_1 22 rfl rfl
theorem dksX1_rests_3 : cX1_rests.data.toList.drop 68 = dktX1_rests_3 := dk_seg dksX1_rests_2 22 rfl rfl
theorem dksX1_rests_4 : cX1_rests.data.toList.drop 92 = dktX1_rests_4 := dk_seg dksX1_rests_3 24 rfl rfl
theorem dX1_rests_0 : decode cX1_rests 0 = .ok (.aload_n 0, 1) := dk_42 (dk_at dksX1_rests_0 0 rfl rfl)
theorem dX1_rests_1 : decode cX1_rests 1 = .ok (.iload_n 1, 1) := dk_27 (dk_at dksX1_rests_0 1 rfl rfl)
theorem dX1_rests_2 : decode cX1_rests 2 = .ok (.invokevirtual 489, 3) := dk_182 1 233 (dk_at dksX1_rests_0 2 rfl rfl)
theorem dX1_rests_5 : decode cX1_rests 5 = .ok (.aload_n 0, 1) := dk_42 (dk_at dksX1_rests_0 5 rfl rfl)
theorem dX1_rests_6 : decode cX1_rests 6 = .ok (.iload_n 2, 1) := dk_28 (dk_at dksX1_rests_0 6 rfl rfl)
theorem dX1_rests_7 : decode cX1_rests 7 = .ok (.invokevirtual 492, 3) := dk_182 1 236 (dk_at dksX1_rests_0 7 rfl rfl)
theorem dX1_rests_10 : decode cX1_rests 10 = .ok (.iconst 0, 1) := dk_3 (dk_at dksX1_rests_0 10 rfl rfl)
theorem dX1_rests_11 : decode cX1_rests 11 = .ok (.istore_n 3, 1) := dk_62 (dk_at dksX1_rests_0 11 rfl rfl)
theorem dX1_rests_12 : decode cX1_rests 12 = .ok (.iconst 0, 1) := dk_3 (dk_at dksX1_rests_0 12 rfl rfl)
theorem dX1_rests_13 : decode cX1_rests 13 = .ok (.istore 4, 2) := dk_54 4 (dk_at dksX1_rests_0 13 rfl rfl)
theorem dX1_rests_15 : decode cX1_rests 15 = .ok (.iload 4, 2) := dk_21 4 (dk_at dksX1_rests_0 15 rfl rfl)
theorem dX1_rests_17 : decode cX1_rests 17 = .ok (.iconst 2, 1) := dk_5 (dk_at dksX1_rests_0 17 rfl rfl)
theorem dX1_rests_18 : decode cX1_rests 18 = .ok (.if_icmp .ge 80, 3) := dk_162 0 80 (dk_at dksX1_rests_0 18 rfl rfl)
theorem dX1_rests_21 : decode cX1_rests 21 = .ok (.iconst 0, 1) := dk_3 (dk_at dksX1_rests_0 21 rfl rfl)
theorem dX1_rests_22 : decode cX1_rests 22 = .ok (.istore 5, 2) := dk_54 5 (dk_at dksX1_rests_0 22 rfl rfl)
theorem dX1_rests_24 : decode cX1_rests 24 = .ok (.iload 5, 2) := dk_21 5 (dk_at dksX1_rests_1 0 rfl rfl)
theorem dX1_rests_26 : decode cX1_rests 26 = .ok (.iconst 2, 1) := dk_5 (dk_at dksX1_rests_1 2 rfl rfl)
theorem dX1_rests_27 : decode cX1_rests 27 = .ok (.if_icmp .ge 65, 3) := dk_162 0 65 (dk_at dksX1_rests_1 3 rfl rfl)
theorem dX1_rests_30 : decode cX1_rests 30 = .ok (.iload 4, 2) := dk_21 4 (dk_at dksX1_rests_1 6 rfl rfl)
theorem dX1_rests_32 : decode cX1_rests 32 = .ok (.iload 5, 2) := dk_21 5 (dk_at dksX1_rests_1 8 rfl rfl)
theorem dX1_rests_34 : decode cX1_rests 34 = .ok (.invokestatic 648, 3) := dk_184 2 136 (dk_at dksX1_rests_1 10 rfl rfl)
theorem dX1_rests_37 : decode cX1_rests 37 = .ok (.iconst 1, 1) := dk_4 (dk_at dksX1_rests_1 13 rfl rfl)
theorem dX1_rests_38 : decode cX1_rests 38 = .ok (.iload 4, 2) := dk_21 4 (dk_at dksX1_rests_1 14 rfl rfl)
theorem dX1_rests_40 : decode cX1_rests 40 = .ok (.isub, 1) := dk_100 (dk_at dksX1_rests_1 16 rfl rfl)
theorem dX1_rests_41 : decode cX1_rests 41 = .ok (.iload 5, 2) := dk_21 5 (dk_at dksX1_rests_1 17 rfl rfl)
theorem dX1_rests_43 : decode cX1_rests 43 = .ok (.invokestatic 648, 3) := dk_184 2 136 (dk_at dksX1_rests_1 19 rfl rfl)
theorem dX1_rests_46 : decode cX1_rests 46 = .ok (.if_icmp .lt 40, 3) := dk_161 0 40 (dk_at dksX1_rests_2 0 rfl rfl)
theorem dX1_rests_49 : decode cX1_rests 49 = .ok (.aload_n 0, 1) := dk_42 (dk_at dksX1_rests_2 3 rfl rfl)
theorem dX1_rests_50 : decode cX1_rests 50 = .ok (.iload_n 1, 1) := dk_27 (dk_at dksX1_rests_2 4 rfl rfl)
theorem dX1_rests_51 : decode cX1_rests 51 = .ok (.iload_n 2, 1) := dk_28 (dk_at dksX1_rests_2 5 rfl rfl)
theorem dX1_rests_52 : decode cX1_rests 52 = .ok (.iload 4, 2) := dk_21 4 (dk_at dksX1_rests_2 6 rfl rfl)
theorem dX1_rests_54 : decode cX1_rests 54 = .ok (.iload 5, 2) := dk_21 5 (dk_at dksX1_rests_2 8 rfl rfl)
theorem dX1_rests_56 : decode cX1_rests 56 = .ok (.invokevirtual 651, 3) := dk_182 2 139 (dk_at dksX1_rests_2 10 rfl rfl)
theorem dX1_rests_59 : decode cX1_rests 59 = .ok (.aload_n 0, 1) := dk_42 (dk_at dksX1_rests_2 13 rfl rfl)
theorem dX1_rests_60 : decode cX1_rests 60 = .ok (.iload_n 1, 1) := dk_27 (dk_at dksX1_rests_2 14 rfl rfl)
theorem dX1_rests_61 : decode cX1_rests 61 = .ok (.iload_n 2, 1) := dk_28 (dk_at dksX1_rests_2 15 rfl rfl)
theorem dX1_rests_62 : decode cX1_rests 62 = .ok (.iload 4, 2) := dk_21 4 (dk_at dksX1_rests_2 16 rfl rfl)
theorem dX1_rests_64 : decode cX1_rests 64 = .ok (.iconst 1, 1) := dk_4 (dk_at dksX1_rests_2 18 rfl rfl)
theorem dX1_rests_65 : decode cX1_rests 65 = .ok (.iload 5, 2) := dk_21 5 (dk_at dksX1_rests_2 19 rfl rfl)
theorem dX1_rests_67 : decode cX1_rests 67 = .ok (.isub, 1) := dk_100 (dk_at dksX1_rests_2 21 rfl rfl)
theorem dX1_rests_68 : decode cX1_rests 68 = .ok (.invokevirtual 651, 3) := dk_182 2 139 (dk_at dksX1_rests_3 0 rfl rfl)
theorem dX1_rests_71 : decode cX1_rests 71 = .ok (.if_icmp .lt 15, 3) := dk_161 0 15 (dk_at dksX1_rests_3 3 rfl rfl)
theorem dX1_rests_74 : decode cX1_rests 74 = .ok (.iload_n 3, 1) := dk_29 (dk_at dksX1_rests_3 6 rfl rfl)
theorem dX1_rests_75 : decode cX1_rests 75 = .ok (.iconst 1, 1) := dk_4 (dk_at dksX1_rests_3 7 rfl rfl)
theorem dX1_rests_76 : decode cX1_rests 76 = .ok (.iconst 2, 1) := dk_5 (dk_at dksX1_rests_3 8 rfl rfl)
theorem dX1_rests_77 : decode cX1_rests 77 = .ok (.iload 4, 2) := dk_21 4 (dk_at dksX1_rests_3 9 rfl rfl)
theorem dX1_rests_79 : decode cX1_rests 79 = .ok (.imul, 1) := dk_104 (dk_at dksX1_rests_3 11 rfl rfl)
theorem dX1_rests_80 : decode cX1_rests 80 = .ok (.iload 5, 2) := dk_21 5 (dk_at dksX1_rests_3 12 rfl rfl)
theorem dX1_rests_82 : decode cX1_rests 82 = .ok (.iadd, 1) := dk_96 (dk_at dksX1_rests_3 14 rfl rfl)
theorem dX1_rests_83 : decode cX1_rests 83 = .ok (.ishl, 1) := dk_120 (dk_at dksX1_rests_3 15 rfl rfl)
theorem dX1_rests_84 : decode cX1_rests 84 = .ok (.ior, 1) := dk_128 (dk_at dksX1_rests_3 16 rfl rfl)
theorem dX1_rests_85 : decode cX1_rests 85 = .ok (.istore_n 3, 1) := dk_62 (dk_at dksX1_rests_3 17 rfl rfl)
theorem dX1_rests_86 : decode cX1_rests 86 = .ok (.iinc 5 1, 3) := dk_132 5 1 (dk_at dksX1_rests_3 18 rfl rfl)
theorem dX1_rests_89 : decode cX1_rests 89 = .ok (.goto (-65), 3) := dk_167 255 191 (dk_at dksX1_rests_3 21 rfl rfl)
theorem dX1_rests_92 : decode cX1_rests 92 = .ok (.iinc 4 1, 3) := dk_132 4 1 (dk_at dksX1_rests_4 0 rfl rfl)
theorem dX1_rests_95 : decode cX1_rests 95 = .ok (.goto (-80), 3) := dk_167 255 176 (dk_at dksX1_rests_4 3 rfl rfl)
theorem dX1_rests_98 : decode cX1_rests 98 = .ok (.iload_n 3, 1) := dk_29 (dk_at dksX1_rests_4 6 rfl rfl)
theorem dX1_rests_99 : decode cX1_rests 99 = .ok (.ireturn, 1) := dk_172 (dk_at dksX1_rests_4 7 rfl rfl)
abbrev cX1_gateHas : ByteArray := prog_1_method_101_code
def yX1_gateHas : MethodName := ⟨RX1, "gateHas", "(II)I"⟩
def dkwX1_gateHas_1 : List UInt8 := [6, 167, 0, 4, 2, 172]
abbrev dktX1_gateHas_1 : List UInt8 := dkwX1_gateHas_1 ++ []
def dkwX1_gateHas_0 : List UInt8 := [26, 4, 160, 0, 17, 27, 4, 160, 0, 8, 16, 254, 167, 0, 17, 3, 167, 0, 13, 27, 4, 160, 0, 7]
abbrev dktX1_gateHas_0 : List UInt8 := dkwX1_gateHas_0 ++ dktX1_gateHas_1
theorem dksX1_gateHas_0 : cX1_gateHas.data.toList.drop 0 = dktX1_gateHas_0 := by decide +kernel
theorem dksX1_gateHas_1 : cX1_gateHas.data.toList.drop 24 = dktX1_gateHas_1 := dk_seg dksX1_gateHas_0 24 rfl rfl
theorem dX1_gateHas_0 : decode cX1_gateHas 0 = .ok (.iload_n 0, 1) := dk_26 (dk_at dksX1_gateHas_0 0 rfl rfl)
theorem dX1_gateHas_1 : decode cX1_gateHas 1 = .ok (.iconst 1, 1) := dk_4 (dk_at dksX1_gateHas_0 1 rfl rfl)
theorem dX1_gateHas_2 : decode cX1_gateHas 2 = .ok (.if_icmp .ne 17, 3) := dk_160 0 17 (dk_at dksX1_gateHas_0 2 rfl rfl)
theorem dX1_gateHas_5 : decode cX1_gateHas 5 = .ok (.iload_n 1, 1) := dk_27 (dk_at dksX1_gateHas_0 5 rfl rfl)
theorem dX1_gateHas_6 : decode cX1_gateHas 6 = .ok (.iconst 1, 1) := dk_4 (dk_at dksX1_gateHas_0 6 rfl rfl)
theorem dX1_gateHas_7 : decode cX1_gateHas 7 = .ok (.if_icmp .ne 8, 3) := dk_160 0 8 (dk_at dksX1_gateHas_0 7 rfl rfl)
theorem dX1_gateHas_10 : decode cX1_gateHas 10 = .ok (.bipush (-2), 2) := dk_16 254 (dk_at dksX1_gateHas_0 10 rfl rfl)
theorem dX1_gateHas_12 : decode cX1_gateHas 12 = .ok (.goto 17, 3) := dk_167 0 17 (dk_at dksX1_gateHas_0 12 rfl rfl)
theorem dX1_gateHas_15 : decode cX1_gateHas 15 = .ok (.iconst 0, 1) := dk_3 (dk_at dksX1_gateHas_0 15 rfl rfl)
theorem dX1_gateHas_16 : decode cX1_gateHas 16 = .ok (.goto 13, 3) := dk_167 0 13 (dk_at dksX1_gateHas_0 16 rfl rfl)
theorem dX1_gateHas_19 : decode cX1_gateHas 19 = .ok (.iload_n 1, 1) := dk_27 (dk_at dksX1_gateHas_0 19 rfl rfl)
theorem dX1_gateHas_20 : decode cX1_gateHas 20 = .ok (.iconst 1, 1) := dk_4 (dk_at dksX1_gateHas_0 20 rfl rfl)
theorem dX1_gateHas_21 : decode cX1_gateHas 21 = .ok (.if_icmp .ne 7, 3) := dk_160 0 7 (dk_at dksX1_gateHas_0 21 rfl rfl)
theorem dX1_gateHas_24 : decode cX1_gateHas 24 = .ok (.iconst 3, 1) := dk_6 (dk_at dksX1_gateHas_1 0 rfl rfl)
theorem dX1_gateHas_25 : decode cX1_gateHas 25 = .ok (.goto 4, 3) := dk_167 0 4 (dk_at dksX1_gateHas_1 1 rfl rfl)
theorem dX1_gateHas_28 : decode cX1_gateHas 28 = .ok (.iconst (-1), 1) := dk_2 (dk_at dksX1_gateHas_1 4 rfl rfl)
theorem dX1_gateHas_29 : decode cX1_gateHas 29 = .ok (.ireturn, 1) := dk_172 (dk_at dksX1_gateHas_1 5 rfl rfl)
abbrev cX1_guestHas : ByteArray := prog_1_method_100_code
def yX1_guestHas : MethodName := ⟨RX1, "guestHas", "(IIII)I"⟩
def dkwX1_guestHas_2 : List UInt8 := [4, 96, 167, 0, 5, 16, 253, 172]
abbrev dktX1_guestHas_2 : List UInt8 := dkwX1_guestHas_2 ++ []
def dkwX1_guestHas_1 : List UInt8 := [50, 27, 46, 167, 0, 4, 3, 172, 29, 4, 160, 0, 19, 42, 180, 0, 10, 180, 0, 165, 28, 50, 27, 46]
abbrev dktX1_guestHas_1 : List UInt8 := dkwX1_guestHas_1 ++ dktX1_guestHas_2
def dkwX1_guestHas_0 : List UInt8 := [21, 4, 154, 0, 30, 42, 180, 0, 10, 28, 182, 1, 153, 153, 0, 17, 42, 180, 0, 10, 180, 0, 165, 28]
abbrev dktX1_guestHas_0 : List UInt8 := dkwX1_guestHas_0 ++ dktX1_guestHas_1
theorem dksX1_guestHas_0 : cX1_guestHas.data.toList.drop 0 = dktX1_guestHas_0 := by decide +kernel
theorem dksX1_guestHas_1 : cX1_guestHas.data.toList.drop 24 = dktX1_guestHas_1 := dk_seg dksX1_guestHas_0 24 rfl rfl
theorem dksX1_guestHas_2 : cX1_guestHas.data.toList.drop 48 = dktX1_guestHas_2 := dk_seg dksX1_guestHas_1 24 rfl rfl
theorem dX1_guestHas_0 : decode cX1_guestHas 0 = .ok (.iload 4, 2) := dk_21 4 (dk_at dksX1_guestHas_0 0 rfl rfl)
theorem dX1_guestHas_2 : decode cX1_guestHas 2 = .ok (.ifCond .ne 30, 3) := dk_154 0 30 (dk_at dksX1_guestHas_0 2 rfl rfl)
theorem dX1_guestHas_5 : decode cX1_guestHas 5 = .ok (.aload_n 0, 1) := dk_42 (dk_at dksX1_guestHas_0 5 rfl rfl)
theorem dX1_guestHas_6 : decode cX1_guestHas 6 = .ok (.getfield 10, 3) := dk_180 0 10 (dk_at dksX1_guestHas_0 6 rfl rfl)
theorem dX1_guestHas_9 : decode cX1_guestHas 9 = .ok (.iload_n 2, 1) := dk_28 (dk_at dksX1_guestHas_0 9 rfl rfl)
theorem dX1_guestHas_10 : decode cX1_guestHas 10 = .ok (.invokevirtual 409, 3) := dk_182 1 153 (dk_at dksX1_guestHas_0 10 rfl rfl)
theorem dX1_guestHas_13 : decode cX1_guestHas 13 = .ok (.ifCond .eq 17, 3) := dk_153 0 17 (dk_at dksX1_guestHas_0 13 rfl rfl)
theorem dX1_guestHas_16 : decode cX1_guestHas 16 = .ok (.aload_n 0, 1) := dk_42 (dk_at dksX1_guestHas_0 16 rfl rfl)
theorem dX1_guestHas_17 : decode cX1_guestHas 17 = .ok (.getfield 10, 3) := dk_180 0 10 (dk_at dksX1_guestHas_0 17 rfl rfl)
theorem dX1_guestHas_20 : decode cX1_guestHas 20 = .ok (.getfield 165, 3) := dk_180 0 165 (dk_at dksX1_guestHas_0 20 rfl rfl)
theorem dX1_guestHas_23 : decode cX1_guestHas 23 = .ok (.iload_n 2, 1) := dk_28 (dk_at dksX1_guestHas_0 23 rfl rfl)
theorem dX1_guestHas_24 : decode cX1_guestHas 24 = .ok (.aaload, 1) := dk_50 (dk_at dksX1_guestHas_1 0 rfl rfl)
theorem dX1_guestHas_25 : decode cX1_guestHas 25 = .ok (.iload_n 1, 1) := dk_27 (dk_at dksX1_guestHas_1 1 rfl rfl)
theorem dX1_guestHas_26 : decode cX1_guestHas 26 = .ok (.iaload, 1) := dk_46 (dk_at dksX1_guestHas_1 2 rfl rfl)
theorem dX1_guestHas_27 : decode cX1_guestHas 27 = .ok (.goto 4, 3) := dk_167 0 4 (dk_at dksX1_guestHas_1 3 rfl rfl)
theorem dX1_guestHas_30 : decode cX1_guestHas 30 = .ok (.iconst 0, 1) := dk_3 (dk_at dksX1_guestHas_1 6 rfl rfl)
theorem dX1_guestHas_31 : decode cX1_guestHas 31 = .ok (.ireturn, 1) := dk_172 (dk_at dksX1_guestHas_1 7 rfl rfl)
theorem dX1_guestHas_32 : decode cX1_guestHas 32 = .ok (.iload_n 3, 1) := dk_29 (dk_at dksX1_guestHas_1 8 rfl rfl)
theorem dX1_guestHas_33 : decode cX1_guestHas 33 = .ok (.iconst 1, 1) := dk_4 (dk_at dksX1_guestHas_1 9 rfl rfl)
theorem dX1_guestHas_34 : decode cX1_guestHas 34 = .ok (.if_icmp .ne 19, 3) := dk_160 0 19 (dk_at dksX1_guestHas_1 10 rfl rfl)
theorem dX1_guestHas_37 : decode cX1_guestHas 37 = .ok (.aload_n 0, 1) := dk_42 (dk_at dksX1_guestHas_1 13 rfl rfl)
theorem dX1_guestHas_38 : decode cX1_guestHas 38 = .ok (.getfield 10, 3) := dk_180 0 10 (dk_at dksX1_guestHas_1 14 rfl rfl)
theorem dX1_guestHas_41 : decode cX1_guestHas 41 = .ok (.getfield 165, 3) := dk_180 0 165 (dk_at dksX1_guestHas_1 17 rfl rfl)
theorem dX1_guestHas_44 : decode cX1_guestHas 44 = .ok (.iload_n 2, 1) := dk_28 (dk_at dksX1_guestHas_1 20 rfl rfl)
theorem dX1_guestHas_45 : decode cX1_guestHas 45 = .ok (.aaload, 1) := dk_50 (dk_at dksX1_guestHas_1 21 rfl rfl)
theorem dX1_guestHas_46 : decode cX1_guestHas 46 = .ok (.iload_n 1, 1) := dk_27 (dk_at dksX1_guestHas_1 22 rfl rfl)
theorem dX1_guestHas_47 : decode cX1_guestHas 47 = .ok (.iaload, 1) := dk_46 (dk_at dksX1_guestHas_1 23 rfl rfl)
theorem dX1_guestHas_48 : decode cX1_guestHas 48 = .ok (.iconst 1, 1) := dk_4 (dk_at dksX1_guestHas_2 0 rfl rfl)
theorem dX1_guestHas_49 : decode cX1_guestHas 49 = .ok (.iadd, 1) := dk_96 (dk_at dksX1_guestHas_2 1 rfl rfl)
theorem dX1_guestHas_50 : decode cX1_guestHas 50 = .ok (.goto 5, 3) := dk_167 0 5 (dk_at dksX1_guestHas_2 2 rfl rfl)
theorem dX1_guestHas_53 : decode cX1_guestHas 53 = .ok (.bipush (-3), 2) := dk_16 253 (dk_at dksX1_guestHas_2 5 rfl rfl)
theorem dX1_guestHas_55 : decode cX1_guestHas 55 = .ok (.ireturn, 1) := dk_172 (dk_at dksX1_guestHas_2 7 rfl rfl)
abbrev cX1_settle : ByteArray := prog_1_method_108_code
def yX1_settle : MethodName := ⟨RX1, "settle", "(I)I"⟩
def dkwX1_settle_2 : List UInt8 := [132, 2, 1, 167, 255, 220, 2, 172]
abbrev dktX1_settle_2 : List UInt8 := dkwX1_settle_2 ++ []
def dkwX1_settle_1 : List UInt8 := [3, 3, 182, 1, 217, 87, 42, 180, 0, 36, 180, 2, 151, 27, 184, 0, 128, 153, 0, 5, 28, 172]
abbrev dktX1_settle_1 : List UInt8 := dkwX1_settle_1 ++ dktX1_settle_2
def dkwX1_settle_0 : List UInt8 := [42, 27, 182, 1, 233, 42, 3, 182, 2, 147, 87, 4, 61, 28, 16, 60, 163, 0, 36, 42, 42, 180, 0, 36]
abbrev dktX1_settle_0 : List UInt8 := dkwX1_settle_0 ++ dktX1_settle_1
theorem dksX1_settle_0 : cX1_settle.data.toList.drop 0 = dktX1_settle_0 := by decide +kernel
theorem dksX1_settle_1 : cX1_settle.data.toList.drop 24 = dktX1_settle_1 := dk_seg dksX1_settle_0 24 rfl rfl
theorem dksX1_settle_2 : cX1_settle.data.toList.drop 46 = dktX1_settle_2 := dk_seg dksX1_settle_1 22 rfl rfl
theorem dX1_settle_0 : decode cX1_settle 0 = .ok (.aload_n 0, 1) := dk_42 (dk_at dksX1_settle_0 0 rfl rfl)
theorem dX1_settle_1 : decode cX1_settle 1 = .ok (.iload_n 1, 1) := dk_27 (dk_at dksX1_settle_0 1 rfl rfl)
theorem dX1_settle_2 : decode cX1_settle 2 = .ok (.invokevirtual 489, 3) := dk_182 1 233 (dk_at dksX1_settle_0 2 rfl rfl)
theorem dX1_settle_5 : decode cX1_settle 5 = .ok (.aload_n 0, 1) := dk_42 (dk_at dksX1_settle_0 5 rfl rfl)
theorem dX1_settle_6 : decode cX1_settle 6 = .ok (.iconst 0, 1) := dk_3 (dk_at dksX1_settle_0 6 rfl rfl)
theorem dX1_settle_7 : decode cX1_settle 7 = .ok (.invokevirtual 659, 3) := dk_182 2 147 (dk_at dksX1_settle_0 7 rfl rfl)
theorem dX1_settle_10 : decode cX1_settle 10 = .ok (.pop, 1) := dk_87 (dk_at dksX1_settle_0 10 rfl rfl)
theorem dX1_settle_11 : decode cX1_settle 11 = .ok (.iconst 1, 1) := dk_4 (dk_at dksX1_settle_0 11 rfl rfl)
theorem dX1_settle_12 : decode cX1_settle 12 = .ok (.istore_n 2, 1) := dk_61 (dk_at dksX1_settle_0 12 rfl rfl)
theorem dX1_settle_13 : decode cX1_settle 13 = .ok (.iload_n 2, 1) := dk_28 (dk_at dksX1_settle_0 13 rfl rfl)
theorem dX1_settle_14 : decode cX1_settle 14 = .ok (.bipush 60, 2) := dk_16 60 (dk_at dksX1_settle_0 14 rfl rfl)
theorem dX1_settle_16 : decode cX1_settle 16 = .ok (.if_icmp .gt 36, 3) := dk_163 0 36 (dk_at dksX1_settle_0 16 rfl rfl)
theorem dX1_settle_19 : decode cX1_settle 19 = .ok (.aload_n 0, 1) := dk_42 (dk_at dksX1_settle_0 19 rfl rfl)
theorem dX1_settle_20 : decode cX1_settle 20 = .ok (.aload_n 0, 1) := dk_42 (dk_at dksX1_settle_0 20 rfl rfl)
theorem dX1_settle_21 : decode cX1_settle 21 = .ok (.getfield 36, 3) := dk_180 0 36 (dk_at dksX1_settle_0 21 rfl rfl)
theorem dX1_settle_24 : decode cX1_settle 24 = .ok (.iconst 0, 1) := dk_3 (dk_at dksX1_settle_1 0 rfl rfl)
theorem dX1_settle_25 : decode cX1_settle 25 = .ok (.iconst 0, 1) := dk_3 (dk_at dksX1_settle_1 1 rfl rfl)
theorem dX1_settle_26 : decode cX1_settle 26 = .ok (.invokevirtual 473, 3) := dk_182 1 217 (dk_at dksX1_settle_1 2 rfl rfl)
theorem dX1_settle_29 : decode cX1_settle 29 = .ok (.pop, 1) := dk_87 (dk_at dksX1_settle_1 5 rfl rfl)
theorem dX1_settle_30 : decode cX1_settle 30 = .ok (.aload_n 0, 1) := dk_42 (dk_at dksX1_settle_1 6 rfl rfl)
theorem dX1_settle_31 : decode cX1_settle 31 = .ok (.getfield 36, 3) := dk_180 0 36 (dk_at dksX1_settle_1 7 rfl rfl)
theorem dX1_settle_34 : decode cX1_settle 34 = .ok (.getfield 663, 3) := dk_180 2 151 (dk_at dksX1_settle_1 10 rfl rfl)
theorem dX1_settle_37 : decode cX1_settle 37 = .ok (.iload_n 1, 1) := dk_27 (dk_at dksX1_settle_1 13 rfl rfl)
theorem dX1_settle_38 : decode cX1_settle 38 = .ok (.invokestatic 128, 3) := dk_184 0 128 (dk_at dksX1_settle_1 14 rfl rfl)
theorem dX1_settle_41 : decode cX1_settle 41 = .ok (.ifCond .eq 5, 3) := dk_153 0 5 (dk_at dksX1_settle_1 17 rfl rfl)
theorem dX1_settle_44 : decode cX1_settle 44 = .ok (.iload_n 2, 1) := dk_28 (dk_at dksX1_settle_1 20 rfl rfl)
theorem dX1_settle_45 : decode cX1_settle 45 = .ok (.ireturn, 1) := dk_172 (dk_at dksX1_settle_1 21 rfl rfl)
theorem dX1_settle_46 : decode cX1_settle 46 = .ok (.iinc 2 1, 3) := dk_132 2 1 (dk_at dksX1_settle_2 0 rfl rfl)
theorem dX1_settle_49 : decode cX1_settle 49 = .ok (.goto (-36), 3) := dk_167 255 220 (dk_at dksX1_settle_2 3 rfl rfl)
theorem dX1_settle_52 : decode cX1_settle 52 = .ok (.iconst (-1), 1) := dk_2 (dk_at dksX1_settle_2 6 rfl rfl)
theorem dX1_settle_53 : decode cX1_settle 53 = .ok (.ireturn, 1) := dk_172 (dk_at dksX1_settle_2 7 rfl rfl)
abbrev cX1_worldAt : ByteArray := prog_1_method_33_code
def yX1_worldAt : MethodName := ⟨RX1, "worldAt", "(I)LVisitingHours$World;"⟩
def dkwX1_worldAt_1 : List UInt8 := [3, 3, 182, 1, 217, 87, 132, 2, 1, 167, 255, 237, 42, 180, 0, 36, 176]
abbrev dktX1_worldAt_1 : List UInt8 := dkwX1_worldAt_1 ++ []
def dkwX1_worldAt_0 : List UInt8 := [42, 180, 0, 36, 42, 180, 0, 10, 182, 1, 3, 87, 3, 61, 28, 27, 162, 0, 20, 42, 42, 180, 0, 36]
abbrev dktX1_worldAt_0 : List UInt8 := dkwX1_worldAt_0 ++ dktX1_worldAt_1
theorem dksX1_worldAt_0 : cX1_worldAt.data.toList.drop 0 = dktX1_worldAt_0 := by decide +kernel
theorem dksX1_worldAt_1 : cX1_worldAt.data.toList.drop 24 = dktX1_worldAt_1 := dk_seg dksX1_worldAt_0 24 rfl rfl
theorem dX1_worldAt_0 : decode cX1_worldAt 0 = .ok (.aload_n 0, 1) := dk_42 (dk_at dksX1_worldAt_0 0 rfl rfl)
theorem dX1_worldAt_1 : decode cX1_worldAt 1 = .ok (.getfield 36, 3) := dk_180 0 36 (dk_at dksX1_worldAt_0 1 rfl rfl)
theorem dX1_worldAt_4 : decode cX1_worldAt 4 = .ok (.aload_n 0, 1) := dk_42 (dk_at dksX1_worldAt_0 4 rfl rfl)
theorem dX1_worldAt_5 : decode cX1_worldAt 5 = .ok (.getfield 10, 3) := dk_180 0 10 (dk_at dksX1_worldAt_0 5 rfl rfl)
theorem dX1_worldAt_8 : decode cX1_worldAt 8 = .ok (.invokevirtual 259, 3) := dk_182 1 3 (dk_at dksX1_worldAt_0 8 rfl rfl)
theorem dX1_worldAt_11 : decode cX1_worldAt 11 = .ok (.pop, 1) := dk_87 (dk_at dksX1_worldAt_0 11 rfl rfl)
theorem dX1_worldAt_12 : decode cX1_worldAt 12 = .ok (.iconst 0, 1) := dk_3 (dk_at dksX1_worldAt_0 12 rfl rfl)
theorem dX1_worldAt_13 : decode cX1_worldAt 13 = .ok (.istore_n 2, 1) := dk_61 (dk_at dksX1_worldAt_0 13 rfl rfl)
theorem dX1_worldAt_14 : decode cX1_worldAt 14 = .ok (.iload_n 2, 1) := dk_28 (dk_at dksX1_worldAt_0 14 rfl rfl)
theorem dX1_worldAt_15 : decode cX1_worldAt 15 = .ok (.iload_n 1, 1) := dk_27 (dk_at dksX1_worldAt_0 15 rfl rfl)
theorem dX1_worldAt_16 : decode cX1_worldAt 16 = .ok (.if_icmp .ge 20, 3) := dk_162 0 20 (dk_at dksX1_worldAt_0 16 rfl rfl)
theorem dX1_worldAt_19 : decode cX1_worldAt 19 = .ok (.aload_n 0, 1) := dk_42 (dk_at dksX1_worldAt_0 19 rfl rfl)
theorem dX1_worldAt_20 : decode cX1_worldAt 20 = .ok (.aload_n 0, 1) := dk_42 (dk_at dksX1_worldAt_0 20 rfl rfl)
theorem dX1_worldAt_21 : decode cX1_worldAt 21 = .ok (.getfield 36, 3) := dk_180 0 36 (dk_at dksX1_worldAt_0 21 rfl rfl)
theorem dX1_worldAt_24 : decode cX1_worldAt 24 = .ok (.iconst 0, 1) := dk_3 (dk_at dksX1_worldAt_1 0 rfl rfl)
theorem dX1_worldAt_25 : decode cX1_worldAt 25 = .ok (.iconst 0, 1) := dk_3 (dk_at dksX1_worldAt_1 1 rfl rfl)
theorem dX1_worldAt_26 : decode cX1_worldAt 26 = .ok (.invokevirtual 473, 3) := dk_182 1 217 (dk_at dksX1_worldAt_1 2 rfl rfl)
theorem dX1_worldAt_29 : decode cX1_worldAt 29 = .ok (.pop, 1) := dk_87 (dk_at dksX1_worldAt_1 5 rfl rfl)
theorem dX1_worldAt_30 : decode cX1_worldAt 30 = .ok (.iinc 2 1, 3) := dk_132 2 1 (dk_at dksX1_worldAt_1 6 rfl rfl)
theorem dX1_worldAt_33 : decode cX1_worldAt 33 = .ok (.goto (-19), 3) := dk_167 255 237 (dk_at dksX1_worldAt_1 9 rfl rfl)
theorem dX1_worldAt_36 : decode cX1_worldAt 36 = .ok (.aload_n 0, 1) := dk_42 (dk_at dksX1_worldAt_1 12 rfl rfl)
theorem dX1_worldAt_37 : decode cX1_worldAt 37 = .ok (.getfield 36, 3) := dk_180 0 36 (dk_at dksX1_worldAt_1 13 rfl rfl)
theorem dX1_worldAt_40 : decode cX1_worldAt 40 = .ok (.areturn, 1) := dk_176 (dk_at dksX1_worldAt_1 16 rfl rfl)
abbrev cX1_gladder : ByteArray := prog_1_method_109_code
def yX1_gladder : MethodName := ⟨RX1, "gladder", "(I)I"⟩
def dkwX1_gladder_0 : List UInt8 := [27, 184, 2, 154, 42, 27, 182, 2, 147, 182, 1, 245, 42, 180, 0, 10, 182, 1, 245, 100, 172]
abbrev dktX1_gladder_0 : List UInt8 := dkwX1_gladder_0 ++ []
theorem dksX1_gladder_0 : cX1_gladder.data.toList.drop 0 = dktX1_gladder_0 := by decide +kernel
theorem dX1_gladder_0 : decode cX1_gladder 0 = .ok (.iload_n 1, 1) := dk_27 (dk_at dksX1_gladder_0 0 rfl rfl)
theorem dX1_gladder_1 : decode cX1_gladder 1 = .ok (.invokestatic 666, 3) := dk_184 2 154 (dk_at dksX1_gladder_0 1 rfl rfl)
theorem dX1_gladder_4 : decode cX1_gladder 4 = .ok (.aload_n 0, 1) := dk_42 (dk_at dksX1_gladder_0 4 rfl rfl)
theorem dX1_gladder_5 : decode cX1_gladder 5 = .ok (.iload_n 1, 1) := dk_27 (dk_at dksX1_gladder_0 5 rfl rfl)
theorem dX1_gladder_6 : decode cX1_gladder 6 = .ok (.invokevirtual 659, 3) := dk_182 2 147 (dk_at dksX1_gladder_0 6 rfl rfl)
theorem dX1_gladder_9 : decode cX1_gladder 9 = .ok (.invokevirtual 501, 3) := dk_182 1 245 (dk_at dksX1_gladder_0 9 rfl rfl)
theorem dX1_gladder_12 : decode cX1_gladder 12 = .ok (.aload_n 0, 1) := dk_42 (dk_at dksX1_gladder_0 12 rfl rfl)
theorem dX1_gladder_13 : decode cX1_gladder 13 = .ok (.getfield 10, 3) := dk_180 0 10 (dk_at dksX1_gladder_0 13 rfl rfl)
theorem dX1_gladder_16 : decode cX1_gladder 16 = .ok (.invokevirtual 501, 3) := dk_182 1 245 (dk_at dksX1_gladder_0 16 rfl rfl)
theorem dX1_gladder_19 : decode cX1_gladder 19 = .ok (.isub, 1) := dk_100 (dk_at dksX1_gladder_0 19 rfl rfl)
theorem dX1_gladder_20 : decode cX1_gladder 20 = .ok (.ireturn, 1) := dk_172 (dk_at dksX1_gladder_0 20 rfl rfl)
abbrev cX1_aheadBy : ByteArray := prog_1_method_43_code
def yX1_aheadBy : MethodName := ⟨RX1, "aheadBy", "(I)V"⟩
def dkwX1_aheadBy_0 : List UInt8 := [26, 3, 16, 60, 184, 0, 124, 184, 1, 242, 177]
abbrev dktX1_aheadBy_0 : List UInt8 := dkwX1_aheadBy_0 ++ []
theorem dksX1_aheadBy_0 : cX1_aheadBy.data.toList.drop 0 = dktX1_aheadBy_0 := by decide +kernel
theorem dX1_aheadBy_0 : decode cX1_aheadBy 0 = .ok (.iload_n 0, 1) := dk_26 (dk_at dksX1_aheadBy_0 0 rfl rfl)
theorem dX1_aheadBy_1 : decode cX1_aheadBy 1 = .ok (.iconst 0, 1) := dk_3 (dk_at dksX1_aheadBy_0 1 rfl rfl)
theorem dX1_aheadBy_2 : decode cX1_aheadBy 2 = .ok (.bipush 60, 2) := dk_16 60 (dk_at dksX1_aheadBy_0 2 rfl rfl)
theorem dX1_aheadBy_4 : decode cX1_aheadBy 4 = .ok (.invokestatic 124, 3) := dk_184 0 124 (dk_at dksX1_aheadBy_0 4 rfl rfl)
theorem dX1_aheadBy_7 : decode cX1_aheadBy 7 = .ok (.invokestatic 498, 3) := dk_184 1 242 (dk_at dksX1_aheadBy_0 7 rfl rfl)
theorem dX1_aheadBy_10 : decode cX1_aheadBy 10 = .ok (.return_, 1) := dk_177 (dk_at dksX1_aheadBy_0 10 rfl rfl)
abbrev cX1_ahead : ByteArray := prog_1_method_110_code
def yX1_ahead : MethodName := ⟨RX1, "ahead", "(III)I"⟩
def dkwX1_ahead_1 : List UInt8 := [154, 0, 13, 25, 4, 180, 0, 145, 27, 46, 167, 0, 10, 25, 4, 180, 0, 148, 27, 46, 172]
abbrev dktX1_ahead_1 : List UInt8 := dkwX1_ahead_1 ++ []
def dkwX1_ahead_0 : List UInt8 := [42, 27, 182, 1, 233, 28, 184, 2, 154, 29, 4, 184, 1, 248, 42, 28, 182, 2, 147, 58, 4, 29]
abbrev dktX1_ahead_0 : List UInt8 := dkwX1_ahead_0 ++ dktX1_ahead_1
theorem dksX1_ahead_0 : cX1_ahead.data.toList.drop 0 = dktX1_ahead_0 := by decide +kernel
theorem dksX1_ahead_1 : cX1_ahead.data.toList.drop 22 = dktX1_ahead_1 := dk_seg dksX1_ahead_0 22 rfl rfl
theorem dX1_ahead_0 : decode cX1_ahead 0 = .ok (.aload_n 0, 1) := dk_42 (dk_at dksX1_ahead_0 0 rfl rfl)
theorem dX1_ahead_1 : decode cX1_ahead 1 = .ok (.iload_n 1, 1) := dk_27 (dk_at dksX1_ahead_0 1 rfl rfl)
theorem dX1_ahead_2 : decode cX1_ahead 2 = .ok (.invokevirtual 489, 3) := dk_182 1 233 (dk_at dksX1_ahead_0 2 rfl rfl)
theorem dX1_ahead_5 : decode cX1_ahead 5 = .ok (.iload_n 2, 1) := dk_28 (dk_at dksX1_ahead_0 5 rfl rfl)
theorem dX1_ahead_6 : decode cX1_ahead 6 = .ok (.invokestatic 666, 3) := dk_184 2 154 (dk_at dksX1_ahead_0 6 rfl rfl)
theorem dX1_ahead_9 : decode cX1_ahead 9 = .ok (.iload_n 3, 1) := dk_29 (dk_at dksX1_ahead_0 9 rfl rfl)
theorem dX1_ahead_10 : decode cX1_ahead 10 = .ok (.iconst 1, 1) := dk_4 (dk_at dksX1_ahead_0 10 rfl rfl)
theorem dX1_ahead_11 : decode cX1_ahead 11 = .ok (.invokestatic 504, 3) := dk_184 1 248 (dk_at dksX1_ahead_0 11 rfl rfl)
theorem dX1_ahead_14 : decode cX1_ahead 14 = .ok (.aload_n 0, 1) := dk_42 (dk_at dksX1_ahead_0 14 rfl rfl)
theorem dX1_ahead_15 : decode cX1_ahead 15 = .ok (.iload_n 2, 1) := dk_28 (dk_at dksX1_ahead_0 15 rfl rfl)
theorem dX1_ahead_16 : decode cX1_ahead 16 = .ok (.invokevirtual 659, 3) := dk_182 2 147 (dk_at dksX1_ahead_0 16 rfl rfl)
theorem dX1_ahead_19 : decode cX1_ahead 19 = .ok (.astore 4, 2) := dk_58 4 (dk_at dksX1_ahead_0 19 rfl rfl)
theorem dX1_ahead_21 : decode cX1_ahead 21 = .ok (.iload_n 3, 1) := dk_29 (dk_at dksX1_ahead_0 21 rfl rfl)
theorem dX1_ahead_22 : decode cX1_ahead 22 = .ok (.ifCond .ne 13, 3) := dk_154 0 13 (dk_at dksX1_ahead_1 0 rfl rfl)
theorem dX1_ahead_25 : decode cX1_ahead 25 = .ok (.aload 4, 2) := dk_25 4 (dk_at dksX1_ahead_1 3 rfl rfl)
theorem dX1_ahead_27 : decode cX1_ahead 27 = .ok (.getfield 145, 3) := dk_180 0 145 (dk_at dksX1_ahead_1 5 rfl rfl)
theorem dX1_ahead_30 : decode cX1_ahead 30 = .ok (.iload_n 1, 1) := dk_27 (dk_at dksX1_ahead_1 8 rfl rfl)
theorem dX1_ahead_31 : decode cX1_ahead 31 = .ok (.iaload, 1) := dk_46 (dk_at dksX1_ahead_1 9 rfl rfl)
theorem dX1_ahead_32 : decode cX1_ahead 32 = .ok (.goto 10, 3) := dk_167 0 10 (dk_at dksX1_ahead_1 10 rfl rfl)
theorem dX1_ahead_35 : decode cX1_ahead 35 = .ok (.aload 4, 2) := dk_25 4 (dk_at dksX1_ahead_1 13 rfl rfl)
theorem dX1_ahead_37 : decode cX1_ahead 37 = .ok (.getfield 148, 3) := dk_180 0 148 (dk_at dksX1_ahead_1 15 rfl rfl)
theorem dX1_ahead_40 : decode cX1_ahead 40 = .ok (.iload_n 1, 1) := dk_27 (dk_at dksX1_ahead_1 18 rfl rfl)
theorem dX1_ahead_41 : decode cX1_ahead 41 = .ok (.iaload, 1) := dk_46 (dk_at dksX1_ahead_1 19 rfl rfl)
theorem dX1_ahead_42 : decode cX1_ahead 42 = .ok (.ireturn, 1) := dk_172 (dk_at dksX1_ahead_1 20 rfl rfl)
abbrev cX1_trial : ByteArray := prog_1_method_112_code
def yX1_trial : MethodName := ⟨RX1, "trial", "(IZ)I"⟩
def dkwX1_trial_2 : List UInt8 := [172]
abbrev dktX1_trial_2 : List UInt8 := dkwX1_trial_2 ++ []
def dkwX1_trial_1 : List UInt8 := [182, 2, 157, 28, 153, 0, 13, 42, 180, 0, 71, 180, 2, 151, 167, 0, 10, 42, 180, 0, 71, 182, 1, 245]
abbrev dktX1_trial_1 : List UInt8 := dkwX1_trial_1 ++ dktX1_trial_2
def dkwX1_trial_0 : List UInt8 := [27, 3, 16, 60, 184, 0, 124, 184, 1, 242, 42, 180, 0, 71, 42, 180, 0, 10, 182, 1, 3, 87, 42, 27]
abbrev dktX1_trial_0 : List UInt8 := dkwX1_trial_0 ++ dktX1_trial_1
theorem dksX1_trial_0 : cX1_trial.data.toList.drop 0 = dktX1_trial_0 := by decide +kernel
theorem dksX1_trial_1 : cX1_trial.data.toList.drop 24 = dktX1_trial_1 := dk_seg dksX1_trial_0 24 rfl rfl
theorem dksX1_trial_2 : cX1_trial.data.toList.drop 48 = dktX1_trial_2 := dk_seg dksX1_trial_1 24 rfl rfl
theorem dX1_trial_0 : decode cX1_trial 0 = .ok (.iload_n 1, 1) := dk_27 (dk_at dksX1_trial_0 0 rfl rfl)
theorem dX1_trial_1 : decode cX1_trial 1 = .ok (.iconst 0, 1) := dk_3 (dk_at dksX1_trial_0 1 rfl rfl)
theorem dX1_trial_2 : decode cX1_trial 2 = .ok (.bipush 60, 2) := dk_16 60 (dk_at dksX1_trial_0 2 rfl rfl)
theorem dX1_trial_4 : decode cX1_trial 4 = .ok (.invokestatic 124, 3) := dk_184 0 124 (dk_at dksX1_trial_0 4 rfl rfl)
theorem dX1_trial_7 : decode cX1_trial 7 = .ok (.invokestatic 498, 3) := dk_184 1 242 (dk_at dksX1_trial_0 7 rfl rfl)
theorem dX1_trial_10 : decode cX1_trial 10 = .ok (.aload_n 0, 1) := dk_42 (dk_at dksX1_trial_0 10 rfl rfl)
theorem dX1_trial_11 : decode cX1_trial 11 = .ok (.getfield 71, 3) := dk_180 0 71 (dk_at dksX1_trial_0 11 rfl rfl)
theorem dX1_trial_14 : decode cX1_trial 14 = .ok (.aload_n 0, 1) := dk_42 (dk_at dksX1_trial_0 14 rfl rfl)
theorem dX1_trial_15 : decode cX1_trial 15 = .ok (.getfield 10, 3) := dk_180 0 10 (dk_at dksX1_trial_0 15 rfl rfl)
theorem dX1_trial_18 : decode cX1_trial 18 = .ok (.invokevirtual 259, 3) := dk_182 1 3 (dk_at dksX1_trial_0 18 rfl rfl)
theorem dX1_trial_21 : decode cX1_trial 21 = .ok (.pop, 1) := dk_87 (dk_at dksX1_trial_0 21 rfl rfl)
theorem dX1_trial_22 : decode cX1_trial 22 = .ok (.aload_n 0, 1) := dk_42 (dk_at dksX1_trial_0 22 rfl rfl)
theorem dX1_trial_23 : decode cX1_trial 23 = .ok (.iload_n 1, 1) := dk_27 (dk_at dksX1_trial_0 23 rfl rfl)
theorem dX1_trial_24 : decode cX1_trial 24 = .ok (.invokevirtual 669, 3) := dk_182 2 157 (dk_at dksX1_trial_1 0 rfl rfl)
theorem dX1_trial_27 : decode cX1_trial 27 = .ok (.iload_n 2, 1) := dk_28 (dk_at dksX1_trial_1 3 rfl rfl)
theorem dX1_trial_28 : decode cX1_trial 28 = .ok (.ifCond .eq 13, 3) := dk_153 0 13 (dk_at dksX1_trial_1 4 rfl rfl)
theorem dX1_trial_31 : decode cX1_trial 31 = .ok (.aload_n 0, 1) := dk_42 (dk_at dksX1_trial_1 7 rfl rfl)
theorem dX1_trial_32 : decode cX1_trial 32 = .ok (.getfield 71, 3) := dk_180 0 71 (dk_at dksX1_trial_1 8 rfl rfl)
theorem dX1_trial_35 : decode cX1_trial 35 = .ok (.getfield 663, 3) := dk_180 2 151 (dk_at dksX1_trial_1 11 rfl rfl)
theorem dX1_trial_38 : decode cX1_trial 38 = .ok (.goto 10, 3) := dk_167 0 10 (dk_at dksX1_trial_1 14 rfl rfl)
theorem dX1_trial_41 : decode cX1_trial 41 = .ok (.aload_n 0, 1) := dk_42 (dk_at dksX1_trial_1 17 rfl rfl)
theorem dX1_trial_42 : decode cX1_trial 42 = .ok (.getfield 71, 3) := dk_180 0 71 (dk_at dksX1_trial_1 18 rfl rfl)
theorem dX1_trial_45 : decode cX1_trial 45 = .ok (.invokevirtual 501, 3) := dk_182 1 245 (dk_at dksX1_trial_1 21 rfl rfl)
theorem dX1_trial_48 : decode cX1_trial 48 = .ok (.ireturn, 1) := dk_172 (dk_at dksX1_trial_2 0 rfl rfl)
abbrev cX1_tries : ByteArray := prog_1_method_111_code
def yX1_tries : MethodName := ⟨RX1, "tries", "(I)V"⟩
def dkwX1_tries_1 : List UInt8 := [177]
abbrev dktX1_tries_1 : List UInt8 := dkwX1_tries_1 ++ []
def dkwX1_tries_0 : List UInt8 := [3, 61, 28, 27, 162, 0, 20, 42, 42, 180, 0, 71, 4, 3, 182, 1, 217, 87, 132, 2, 1, 167, 255, 237]
abbrev dktX1_tries_0 : List UInt8 := dkwX1_tries_0 ++ dktX1_tries_1
theorem dksX1_tries_0 : cX1_tries.data.toList.drop 0 = dktX1_tries_0 := by decide +kernel
theorem dksX1_tries_1 : cX1_tries.data.toList.drop 24 = dktX1_tries_1 := dk_seg dksX1_tries_0 24 rfl rfl
theorem dX1_tries_0 : decode cX1_tries 0 = .ok (.iconst 0, 1) := dk_3 (dk_at dksX1_tries_0 0 rfl rfl)
theorem dX1_tries_1 : decode cX1_tries 1 = .ok (.istore_n 2, 1) := dk_61 (dk_at dksX1_tries_0 1 rfl rfl)
theorem dX1_tries_2 : decode cX1_tries 2 = .ok (.iload_n 2, 1) := dk_28 (dk_at dksX1_tries_0 2 rfl rfl)
theorem dX1_tries_3 : decode cX1_tries 3 = .ok (.iload_n 1, 1) := dk_27 (dk_at dksX1_tries_0 3 rfl rfl)
theorem dX1_tries_4 : decode cX1_tries 4 = .ok (.if_icmp .ge 20, 3) := dk_162 0 20 (dk_at dksX1_tries_0 4 rfl rfl)
theorem dX1_tries_7 : decode cX1_tries 7 = .ok (.aload_n 0, 1) := dk_42 (dk_at dksX1_tries_0 7 rfl rfl)
theorem dX1_tries_8 : decode cX1_tries 8 = .ok (.aload_n 0, 1) := dk_42 (dk_at dksX1_tries_0 8 rfl rfl)
theorem dX1_tries_9 : decode cX1_tries 9 = .ok (.getfield 71, 3) := dk_180 0 71 (dk_at dksX1_tries_0 9 rfl rfl)
theorem dX1_tries_12 : decode cX1_tries 12 = .ok (.iconst 1, 1) := dk_4 (dk_at dksX1_tries_0 12 rfl rfl)
theorem dX1_tries_13 : decode cX1_tries 13 = .ok (.iconst 0, 1) := dk_3 (dk_at dksX1_tries_0 13 rfl rfl)
theorem dX1_tries_14 : decode cX1_tries 14 = .ok (.invokevirtual 473, 3) := dk_182 1 217 (dk_at dksX1_tries_0 14 rfl rfl)
theorem dX1_tries_17 : decode cX1_tries 17 = .ok (.pop, 1) := dk_87 (dk_at dksX1_tries_0 17 rfl rfl)
theorem dX1_tries_18 : decode cX1_tries 18 = .ok (.iinc 2 1, 3) := dk_132 2 1 (dk_at dksX1_tries_0 18 rfl rfl)
theorem dX1_tries_21 : decode cX1_tries 21 = .ok (.goto (-19), 3) := dk_167 255 237 (dk_at dksX1_tries_0 21 rfl rfl)
theorem dX1_tries_24 : decode cX1_tries 24 = .ok (.return_, 1) := dk_177 (dk_at dksX1_tries_1 0 rfl rfl)
abbrev cX1_span : ByteArray := prog_1_method_113_code
def yX1_span : MethodName := ⟨RX1, "span", "(IZ)I"⟩
def dkwX1_span_4 : List UInt8 := [167, 255, 181, 29, 172]
abbrev dktX1_span_4 : List UInt8 := dkwX1_span_4 ++ []
def dkwX1_span_3 : List UInt8 := [153, 0, 12, 29, 21, 5, 184, 2, 85, 167, 0, 9, 29, 21, 5, 184, 1, 191, 62, 132, 4, 1]
abbrev dktX1_span_3 : List UInt8 := dkwX1_span_3 ++ dktX1_span_4
def dkwX1_span_2 : List UInt8 := [182, 2, 157, 42, 180, 0, 71, 182, 1, 245, 54, 5, 29, 2, 160, 0, 8, 21, 5, 167, 0, 22, 28]
abbrev dktX1_span_2 : List UInt8 := dkwX1_span_2 ++ dktX1_span_3
def dkwX1_span_1 : List UInt8 := [180, 0, 71, 42, 180, 0, 10, 182, 1, 3, 87, 42, 180, 0, 71, 21, 4, 181, 2, 160, 42, 27]
abbrev dktX1_span_1 : List UInt8 := dkwX1_span_1 ++ dktX1_span_2
def dkwX1_span_0 : List UInt8 := [27, 3, 16, 60, 184, 0, 124, 184, 1, 242, 2, 62, 4, 54, 4, 21, 4, 16, 6, 163, 0, 74, 42]
abbrev dktX1_span_0 : List UInt8 := dkwX1_span_0 ++ dktX1_span_1
theorem dksX1_span_0 : cX1_span.data.toList.drop 0 = dktX1_span_0 := by decide +kernel
theorem dksX1_span_1 : cX1_span.data.toList.drop 23 = dktX1_span_1 := dk_seg dksX1_span_0 23 rfl rfl
theorem dksX1_span_2 : cX1_span.data.toList.drop 45 = dktX1_span_2 := dk_seg dksX1_span_1 22 rfl rfl
theorem dksX1_span_3 : cX1_span.data.toList.drop 68 = dktX1_span_3 := dk_seg dksX1_span_2 23 rfl rfl
theorem dksX1_span_4 : cX1_span.data.toList.drop 90 = dktX1_span_4 := dk_seg dksX1_span_3 22 rfl rfl
theorem dX1_span_0 : decode cX1_span 0 = .ok (.iload_n 1, 1) := dk_27 (dk_at dksX1_span_0 0 rfl rfl)
theorem dX1_span_1 : decode cX1_span 1 = .ok (.iconst 0, 1) := dk_3 (dk_at dksX1_span_0 1 rfl rfl)
theorem dX1_span_2 : decode cX1_span 2 = .ok (.bipush 60, 2) := dk_16 60 (dk_at dksX1_span_0 2 rfl rfl)
theorem dX1_span_4 : decode cX1_span 4 = .ok (.invokestatic 124, 3) := dk_184 0 124 (dk_at dksX1_span_0 4 rfl rfl)
theorem dX1_span_7 : decode cX1_span 7 = .ok (.invokestatic 498, 3) := dk_184 1 242 (dk_at dksX1_span_0 7 rfl rfl)
theorem dX1_span_10 : decode cX1_span 10 = .ok (.iconst (-1), 1) := dk_2 (dk_at dksX1_span_0 10 rfl rfl)
theorem dX1_span_11 : decode cX1_span 11 = .ok (.istore_n 3, 1) := dk_62 (dk_at dksX1_span_0 11 rfl rfl)
theorem dX1_span_12 : decode cX1_span 12 = .ok (.iconst 1, 1) := dk_4 (dk_at dksX1_span_0 12 rfl rfl)
theorem dX1_span_13 : decode cX1_span 13 = .ok (.istore 4, 2) := dk_54 4 (dk_at dksX1_span_0 13 rfl rfl)
theorem dX1_span_15 : decode cX1_span 15 = .ok (.iload 4, 2) := dk_21 4 (dk_at dksX1_span_0 15 rfl rfl)
theorem dX1_span_17 : decode cX1_span 17 = .ok (.bipush 6, 2) := dk_16 6 (dk_at dksX1_span_0 17 rfl rfl)
theorem dX1_span_19 : decode cX1_span 19 = .ok (.if_icmp .gt 74, 3) := dk_163 0 74 (dk_at dksX1_span_0 19 rfl rfl)
theorem dX1_span_22 : decode cX1_span 22 = .ok (.aload_n 0, 1) := dk_42 (dk_at dksX1_span_0 22 rfl rfl)
theorem dX1_span_23 : decode cX1_span 23 = .ok (.getfield 71, 3) := dk_180 0 71 (dk_at dksX1_span_1 0 rfl rfl)
theorem dX1_span_26 : decode cX1_span 26 = .ok (.aload_n 0, 1) := dk_42 (dk_at dksX1_span_1 3 rfl rfl)
theorem dX1_span_27 : decode cX1_span 27 = .ok (.getfield 10, 3) := dk_180 0 10 (dk_at dksX1_span_1 4 rfl rfl)
theorem dX1_span_30 : decode cX1_span 30 = .ok (.invokevirtual 259, 3) := dk_182 1 3 (dk_at dksX1_span_1 7 rfl rfl)
theorem dX1_span_33 : decode cX1_span 33 = .ok (.pop, 1) := dk_87 (dk_at dksX1_span_1 10 rfl rfl)
theorem dX1_span_34 : decode cX1_span 34 = .ok (.aload_n 0, 1) := dk_42 (dk_at dksX1_span_1 11 rfl rfl)
theorem dX1_span_35 : decode cX1_span 35 = .ok (.getfield 71, 3) := dk_180 0 71 (dk_at dksX1_span_1 12 rfl rfl)
theorem dX1_span_38 : decode cX1_span 38 = .ok (.iload 4, 2) := dk_21 4 (dk_at dksX1_span_1 15 rfl rfl)
theorem dX1_span_40 : decode cX1_span 40 = .ok (.putfield 672, 3) := dk_181 2 160 (dk_at dksX1_span_1 17 rfl rfl)
theorem dX1_span_43 : decode cX1_span 43 = .ok (.aload_n 0, 1) := dk_42 (dk_at dksX1_span_1 20 rfl rfl)
theorem dX1_span_44 : decode cX1_span 44 = .ok (.iload_n 1, 1) := dk_27 (dk_at dksX1_span_1 21 rfl rfl)
theorem dX1_span_45 : decode cX1_span 45 = .ok (.invokevirtual 669, 3) := dk_182 2 157 (dk_at dksX1_span_2 0 rfl rfl)
theorem dX1_span_48 : decode cX1_span 48 = .ok (.aload_n 0, 1) := dk_42 (dk_at dksX1_span_2 3 rfl rfl)
theorem dX1_span_49 : decode cX1_span 49 = .ok (.getfield 71, 3) := dk_180 0 71 (dk_at dksX1_span_2 4 rfl rfl)
theorem dX1_span_52 : decode cX1_span 52 = .ok (.invokevirtual 501, 3) := dk_182 1 245 (dk_at dksX1_span_2 7 rfl rfl)
theorem dX1_span_55 : decode cX1_span 55 = .ok (.istore 5, 2) := dk_54 5 (dk_at dksX1_span_2 10 rfl rfl)
theorem dX1_span_57 : decode cX1_span 57 = .ok (.iload_n 3, 1) := dk_29 (dk_at dksX1_span_2 12 rfl rfl)
theorem dX1_span_58 : decode cX1_span 58 = .ok (.iconst (-1), 1) := dk_2 (dk_at dksX1_span_2 13 rfl rfl)
theorem dX1_span_59 : decode cX1_span 59 = .ok (.if_icmp .ne 8, 3) := dk_160 0 8 (dk_at dksX1_span_2 14 rfl rfl)
theorem dX1_span_62 : decode cX1_span 62 = .ok (.iload 5, 2) := dk_21 5 (dk_at dksX1_span_2 17 rfl rfl)
theorem dX1_span_64 : decode cX1_span 64 = .ok (.goto 22, 3) := dk_167 0 22 (dk_at dksX1_span_2 19 rfl rfl)
theorem dX1_span_67 : decode cX1_span 67 = .ok (.iload_n 2, 1) := dk_28 (dk_at dksX1_span_2 22 rfl rfl)
theorem dX1_span_68 : decode cX1_span 68 = .ok (.ifCond .eq 12, 3) := dk_153 0 12 (dk_at dksX1_span_3 0 rfl rfl)
theorem dX1_span_71 : decode cX1_span 71 = .ok (.iload_n 3, 1) := dk_29 (dk_at dksX1_span_3 3 rfl rfl)
theorem dX1_span_72 : decode cX1_span 72 = .ok (.iload 5, 2) := dk_21 5 (dk_at dksX1_span_3 4 rfl rfl)
theorem dX1_span_74 : decode cX1_span 74 = .ok (.invokestatic 597, 3) := dk_184 2 85 (dk_at dksX1_span_3 6 rfl rfl)
theorem dX1_span_77 : decode cX1_span 77 = .ok (.goto 9, 3) := dk_167 0 9 (dk_at dksX1_span_3 9 rfl rfl)
theorem dX1_span_80 : decode cX1_span 80 = .ok (.iload_n 3, 1) := dk_29 (dk_at dksX1_span_3 12 rfl rfl)
theorem dX1_span_81 : decode cX1_span 81 = .ok (.iload 5, 2) := dk_21 5 (dk_at dksX1_span_3 13 rfl rfl)
theorem dX1_span_83 : decode cX1_span 83 = .ok (.invokestatic 447, 3) := dk_184 1 191 (dk_at dksX1_span_3 15 rfl rfl)
theorem dX1_span_86 : decode cX1_span 86 = .ok (.istore_n 3, 1) := dk_62 (dk_at dksX1_span_3 18 rfl rfl)
theorem dX1_span_87 : decode cX1_span 87 = .ok (.iinc 4 1, 3) := dk_132 4 1 (dk_at dksX1_span_3 19 rfl rfl)
theorem dX1_span_90 : decode cX1_span 90 = .ok (.goto (-75), 3) := dk_167 255 181 (dk_at dksX1_span_4 0 rfl rfl)
theorem dX1_span_93 : decode cX1_span 93 = .ok (.iload_n 3, 1) := dk_29 (dk_at dksX1_span_4 3 rfl rfl)
theorem dX1_span_94 : decode cX1_span 94 = .ok (.ireturn, 1) := dk_172 (dk_at dksX1_span_4 4 rfl rfl)
abbrev cX1_led : ByteArray := prog_1_method_115_code
def yX1_led : MethodName := ⟨RX1, "led", "(IZ)I"⟩
def dkwX1_led_2 : List UInt8 := [182, 2, 169, 54, 4, 132, 5, 255, 167, 255, 222, 28, 153, 0, 8, 21, 4, 167, 0, 4, 29, 172]
abbrev dktX1_led_2 : List UInt8 := dkwX1_led_2 ++ []
def dkwX1_led_1 : List UInt8 := [155, 0, 35, 42, 21, 5, 4, 182, 2, 169, 27, 159, 0, 6, 167, 0, 15, 132, 3, 1, 42, 21, 5, 3]
abbrev dktX1_led_1 : List UInt8 := dkwX1_led_1 ++ dktX1_led_2
def dkwX1_led_0 : List UInt8 := [42, 27, 182, 1, 233, 3, 62, 2, 54, 4, 42, 180, 0, 10, 180, 2, 166, 4, 100, 54, 5, 21, 5]
abbrev dktX1_led_0 : List UInt8 := dkwX1_led_0 ++ dktX1_led_1
theorem dksX1_led_0 : cX1_led.data.toList.drop 0 = dktX1_led_0 := by decide +kernel
theorem dksX1_led_1 : cX1_led.data.toList.drop 23 = dktX1_led_1 := dk_seg dksX1_led_0 23 rfl rfl
theorem dksX1_led_2 : cX1_led.data.toList.drop 47 = dktX1_led_2 := dk_seg dksX1_led_1 24 rfl rfl
theorem dX1_led_0 : decode cX1_led 0 = .ok (.aload_n 0, 1) := dk_42 (dk_at dksX1_led_0 0 rfl rfl)
theorem dX1_led_1 : decode cX1_led 1 = .ok (.iload_n 1, 1) := dk_27 (dk_at dksX1_led_0 1 rfl rfl)
theorem dX1_led_2 : decode cX1_led 2 = .ok (.invokevirtual 489, 3) := dk_182 1 233 (dk_at dksX1_led_0 2 rfl rfl)
theorem dX1_led_5 : decode cX1_led 5 = .ok (.iconst 0, 1) := dk_3 (dk_at dksX1_led_0 5 rfl rfl)
theorem dX1_led_6 : decode cX1_led 6 = .ok (.istore_n 3, 1) := dk_62 (dk_at dksX1_led_0 6 rfl rfl)
theorem dX1_led_7 : decode cX1_led 7 = .ok (.iconst (-1), 1) := dk_2 (dk_at dksX1_led_0 7 rfl rfl)
theorem dX1_led_8 : decode cX1_led 8 = .ok (.istore 4, 2) := dk_54 4 (dk_at dksX1_led_0 8 rfl rfl)
theorem dX1_led_10 : decode cX1_led 10 = .ok (.aload_n 0, 1) := dk_42 (dk_at dksX1_led_0 10 rfl rfl)
theorem dX1_led_11 : decode cX1_led 11 = .ok (.getfield 10, 3) := dk_180 0 10 (dk_at dksX1_led_0 11 rfl rfl)
theorem dX1_led_14 : decode cX1_led 14 = .ok (.getfield 678, 3) := dk_180 2 166 (dk_at dksX1_led_0 14 rfl rfl)
theorem dX1_led_17 : decode cX1_led 17 = .ok (.iconst 1, 1) := dk_4 (dk_at dksX1_led_0 17 rfl rfl)
theorem dX1_led_18 : decode cX1_led 18 = .ok (.isub, 1) := dk_100 (dk_at dksX1_led_0 18 rfl rfl)
theorem dX1_led_19 : decode cX1_led 19 = .ok (.istore 5, 2) := dk_54 5 (dk_at dksX1_led_0 19 rfl rfl)
theorem dX1_led_21 : decode cX1_led 21 = .ok (.iload 5, 2) := dk_21 5 (dk_at dksX1_led_0 21 rfl rfl)
theorem dX1_led_23 : decode cX1_led 23 = .ok (.ifCond .lt 35, 3) := dk_155 0 35 (dk_at dksX1_led_1 0 rfl rfl)
theorem dX1_led_26 : decode cX1_led 26 = .ok (.aload_n 0, 1) := dk_42 (dk_at dksX1_led_1 3 rfl rfl)
theorem dX1_led_27 : decode cX1_led 27 = .ok (.iload 5, 2) := dk_21 5 (dk_at dksX1_led_1 4 rfl rfl)
theorem dX1_led_29 : decode cX1_led 29 = .ok (.iconst 1, 1) := dk_4 (dk_at dksX1_led_1 6 rfl rfl)
theorem dX1_led_30 : decode cX1_led 30 = .ok (.invokevirtual 681, 3) := dk_182 2 169 (dk_at dksX1_led_1 7 rfl rfl)
theorem dX1_led_33 : decode cX1_led 33 = .ok (.iload_n 1, 1) := dk_27 (dk_at dksX1_led_1 10 rfl rfl)
theorem dX1_led_34 : decode cX1_led 34 = .ok (.if_icmp .eq 6, 3) := dk_159 0 6 (dk_at dksX1_led_1 11 rfl rfl)
theorem dX1_led_37 : decode cX1_led 37 = .ok (.goto 15, 3) := dk_167 0 15 (dk_at dksX1_led_1 14 rfl rfl)
theorem dX1_led_40 : decode cX1_led 40 = .ok (.iinc 3 1, 3) := dk_132 3 1 (dk_at dksX1_led_1 17 rfl rfl)
theorem dX1_led_43 : decode cX1_led 43 = .ok (.aload_n 0, 1) := dk_42 (dk_at dksX1_led_1 20 rfl rfl)
theorem dX1_led_44 : decode cX1_led 44 = .ok (.iload 5, 2) := dk_21 5 (dk_at dksX1_led_1 21 rfl rfl)
theorem dX1_led_46 : decode cX1_led 46 = .ok (.iconst 0, 1) := dk_3 (dk_at dksX1_led_1 23 rfl rfl)
theorem dX1_led_47 : decode cX1_led 47 = .ok (.invokevirtual 681, 3) := dk_182 2 169 (dk_at dksX1_led_2 0 rfl rfl)
theorem dX1_led_50 : decode cX1_led 50 = .ok (.istore 4, 2) := dk_54 4 (dk_at dksX1_led_2 3 rfl rfl)
theorem dX1_led_52 : decode cX1_led 52 = .ok (.iinc 5 (-1), 3) := dk_132 5 255 (dk_at dksX1_led_2 5 rfl rfl)
theorem dX1_led_55 : decode cX1_led 55 = .ok (.goto (-34), 3) := dk_167 255 222 (dk_at dksX1_led_2 8 rfl rfl)
theorem dX1_led_58 : decode cX1_led 58 = .ok (.iload_n 2, 1) := dk_28 (dk_at dksX1_led_2 11 rfl rfl)
theorem dX1_led_59 : decode cX1_led 59 = .ok (.ifCond .eq 8, 3) := dk_153 0 8 (dk_at dksX1_led_2 12 rfl rfl)
theorem dX1_led_62 : decode cX1_led 62 = .ok (.iload 4, 2) := dk_21 4 (dk_at dksX1_led_2 15 rfl rfl)
theorem dX1_led_64 : decode cX1_led 64 = .ok (.goto 4, 3) := dk_167 0 4 (dk_at dksX1_led_2 17 rfl rfl)
theorem dX1_led_67 : decode cX1_led 67 = .ok (.iload_n 3, 1) := dk_29 (dk_at dksX1_led_2 20 rfl rfl)
theorem dX1_led_68 : decode cX1_led 68 = .ok (.ireturn, 1) := dk_172 (dk_at dksX1_led_2 21 rfl rfl)
abbrev cX1_ofLog : ByteArray := prog_1_method_114_code
def yX1_ofLog : MethodName := ⟨RX1, "ofLog", "(II)I"⟩
def dkwX1_ofLog_0 : List UInt8 := [42, 180, 0, 10, 180, 2, 163, 16, 6, 27, 104, 28, 96, 46, 172]
abbrev dktX1_ofLog_0 : List UInt8 := dkwX1_ofLog_0 ++ []
theorem dksX1_ofLog_0 : cX1_ofLog.data.toList.drop 0 = dktX1_ofLog_0 := by decide +kernel
theorem dX1_ofLog_0 : decode cX1_ofLog 0 = .ok (.aload_n 0, 1) := dk_42 (dk_at dksX1_ofLog_0 0 rfl rfl)
theorem dX1_ofLog_1 : decode cX1_ofLog 1 = .ok (.getfield 10, 3) := dk_180 0 10 (dk_at dksX1_ofLog_0 1 rfl rfl)
theorem dX1_ofLog_4 : decode cX1_ofLog 4 = .ok (.getfield 675, 3) := dk_180 2 163 (dk_at dksX1_ofLog_0 4 rfl rfl)
theorem dX1_ofLog_7 : decode cX1_ofLog 7 = .ok (.bipush 6, 2) := dk_16 6 (dk_at dksX1_ofLog_0 7 rfl rfl)
theorem dX1_ofLog_9 : decode cX1_ofLog 9 = .ok (.iload_n 1, 1) := dk_27 (dk_at dksX1_ofLog_0 9 rfl rfl)
theorem dX1_ofLog_10 : decode cX1_ofLog 10 = .ok (.imul, 1) := dk_104 (dk_at dksX1_ofLog_0 10 rfl rfl)
theorem dX1_ofLog_11 : decode cX1_ofLog 11 = .ok (.iload_n 2, 1) := dk_28 (dk_at dksX1_ofLog_0 11 rfl rfl)
theorem dX1_ofLog_12 : decode cX1_ofLog 12 = .ok (.iadd, 1) := dk_96 (dk_at dksX1_ofLog_0 12 rfl rfl)
theorem dX1_ofLog_13 : decode cX1_ofLog 13 = .ok (.iaload, 1) := dk_46 (dk_at dksX1_ofLog_0 13 rfl rfl)
theorem dX1_ofLog_14 : decode cX1_ofLog 14 = .ok (.ireturn, 1) := dk_172 (dk_at dksX1_ofLog_0 14 rfl rfl)
abbrev cX1_log : ByteArray := prog_1_method_116_code
def yX1_log : MethodName := ⟨RX1, "log", "(II)I"⟩
def dkwX1_log_1 : List UInt8 := [28, 182, 2, 169, 167, 0, 5, 16, 254, 172]
abbrev dktX1_log_1 : List UInt8 := dkwX1_log_1 ++ []
def dkwX1_log_0 : List UInt8 := [28, 8, 184, 1, 248, 27, 3, 42, 180, 0, 10, 180, 2, 166, 4, 100, 184, 0, 124, 153, 0, 12, 42, 27]
abbrev dktX1_log_0 : List UInt8 := dkwX1_log_0 ++ dktX1_log_1
theorem dksX1_log_0 : cX1_log.data.toList.drop 0 = dktX1_log_0 := by decide +kernel
theorem dksX1_log_1 : cX1_log.data.toList.drop 24 = dktX1_log_1 := dk_seg dksX1_log_0 24 rfl rfl
theorem dX1_log_0 : decode cX1_log 0 = .ok (.iload_n 2, 1) := dk_28 (dk_at dksX1_log_0 0 rfl rfl)
theorem dX1_log_1 : decode cX1_log 1 = .ok (.iconst 5, 1) := dk_8 (dk_at dksX1_log_0 1 rfl rfl)
theorem dX1_log_2 : decode cX1_log 2 = .ok (.invokestatic 504, 3) := dk_184 1 248 (dk_at dksX1_log_0 2 rfl rfl)
theorem dX1_log_5 : decode cX1_log 5 = .ok (.iload_n 1, 1) := dk_27 (dk_at dksX1_log_0 5 rfl rfl)
theorem dX1_log_6 : decode cX1_log 6 = .ok (.iconst 0, 1) := dk_3 (dk_at dksX1_log_0 6 rfl rfl)
theorem dX1_log_7 : decode cX1_log 7 = .ok (.aload_n 0, 1) := dk_42 (dk_at dksX1_log_0 7 rfl rfl)
theorem dX1_log_8 : decode cX1_log 8 = .ok (.getfield 10, 3) := dk_180 0 10 (dk_at dksX1_log_0 8 rfl rfl)
theorem dX1_log_11 : decode cX1_log 11 = .ok (.getfield 678, 3) := dk_180 2 166 (dk_at dksX1_log_0 11 rfl rfl)
theorem dX1_log_14 : decode cX1_log 14 = .ok (.iconst 1, 1) := dk_4 (dk_at dksX1_log_0 14 rfl rfl)
theorem dX1_log_15 : decode cX1_log 15 = .ok (.isub, 1) := dk_100 (dk_at dksX1_log_0 15 rfl rfl)
theorem dX1_log_16 : decode cX1_log 16 = .ok (.invokestatic 124, 3) := dk_184 0 124 (dk_at dksX1_log_0 16 rfl rfl)
theorem dX1_log_19 : decode cX1_log 19 = .ok (.ifCond .eq 12, 3) := dk_153 0 12 (dk_at dksX1_log_0 19 rfl rfl)
theorem dX1_log_22 : decode cX1_log 22 = .ok (.aload_n 0, 1) := dk_42 (dk_at dksX1_log_0 22 rfl rfl)
theorem dX1_log_23 : decode cX1_log 23 = .ok (.iload_n 1, 1) := dk_27 (dk_at dksX1_log_0 23 rfl rfl)
theorem dX1_log_24 : decode cX1_log 24 = .ok (.iload_n 2, 1) := dk_28 (dk_at dksX1_log_1 0 rfl rfl)
theorem dX1_log_25 : decode cX1_log 25 = .ok (.invokevirtual 681, 3) := dk_182 2 169 (dk_at dksX1_log_1 1 rfl rfl)
theorem dX1_log_28 : decode cX1_log 28 = .ok (.goto 5, 3) := dk_167 0 5 (dk_at dksX1_log_1 4 rfl rfl)
theorem dX1_log_31 : decode cX1_log 31 = .ok (.bipush (-2), 2) := dk_16 254 (dk_at dksX1_log_1 7 rfl rfl)
theorem dX1_log_33 : decode cX1_log 33 = .ok (.ireturn, 1) := dk_172 (dk_at dksX1_log_1 9 rfl rfl)
theorem q144 : (Jvm.Cond.initialized "VisitingHours") ∈ lw_all := lw_g (lw_at lw_m1 1 rfl) rfl
theorem q188 : (Jvm.Cond.instantiable "VisitingHours" (16 : Nat)) ∈ lw_all := lw_g (lw_at lw_m1 45 rfl) rfl
theorem q190 : (Jvm.Cond.instanceMethod ({ cls := "VisitingHours", name := "<init>", desc := "()V" } : Jvm.MethodName)) ∈ lw_all := lw_g (lw_at lw_m1 47 rfl) rfl
theorem q191 : (Jvm.Cond.code ({ cls := "VisitingHours", name := "<init>", desc := "()V" } : Jvm.MethodName) prog_1_method_1_code (1 : Nat) (Option.none : Option Jvm.ClassFile.FieldType)) ∈ lw_all := lw_g (lw_at lw_m1 48 rfl) rfl
theorem q192 : (Jvm.Cond.methodLink "VisitingHours" (1 : Nat) ({ cls := "java/lang/Object", name := "<init>", desc := "()V" } : Jvm.MethodName)) ∈ lw_all := lw_g (lw_at lw_m1 49 rfl) rfl
theorem q195 : (Jvm.Cond.classLink "VisitingHours" (7 : Nat) "VisitingHours$World") ∈ lw_all := lw_g (lw_at lw_m1 52 rfl) rfl
theorem q197 : (Jvm.Cond.methodLinkNest "VisitingHours" (9 : Nat) ({ cls := "VisitingHours$World", name := "<init>", desc := "()V" } : Jvm.MethodName) "VisitingHours") ∈ lw_tbl := lw_at lw_m1 54 rfl
theorem q204 : (Jvm.Cond.fieldLinkNest "VisitingHours" (271 : Nat) "VisitingHours$World" "texts" "I" "VisitingHours") ∈ lw_tbl := lw_at lw_m1 61 rfl
theorem q207 : (Jvm.Cond.fieldLinkNest "VisitingHours" (132 : Nat) "VisitingHours$World" "hosts" "I" "VisitingHours") ∈ lw_tbl := lw_at lw_m1 64 rfl
theorem q210 : (Jvm.Cond.fieldLinkNest "VisitingHours" (168 : Nat) "VisitingHours$World" "guests" "I" "VisitingHours") ∈ lw_tbl := lw_at lw_m1 67 rfl
theorem q212 : (Jvm.Cond.fieldLinkNest "VisitingHours" (225 : Nat) "VisitingHours$World" "rain" "I" "VisitingHours") ∈ lw_tbl := lw_at lw_m1 69 rfl
theorem q214 : (Jvm.Cond.fieldLinkNest "VisitingHours" (229 : Nat) "VisitingHours$World" "must" "I" "VisitingHours") ∈ lw_tbl := lw_at lw_m1 71 rfl
theorem q216 : (Jvm.Cond.fieldLinkNest "VisitingHours" (231 : Nat) "VisitingHours$World" "not" "I" "VisitingHours") ∈ lw_tbl := lw_at lw_m1 73 rfl
theorem q218 : (Jvm.Cond.fieldLinkNest "VisitingHours" (227 : Nat) "VisitingHours$World" "week" "I" "VisitingHours") ∈ lw_tbl := lw_at lw_m1 75 rfl
theorem q220 : (Jvm.Cond.fieldLinkNest "VisitingHours" (678 : Nat) "VisitingHours$World" "logged" "I" "VisitingHours") ∈ lw_tbl := lw_at lw_m1 77 rfl
theorem q222 : (Jvm.Cond.fieldLinkNest "VisitingHours" (672 : Nat) "VisitingHours$World" "seed" "I" "VisitingHours") ∈ lw_tbl := lw_at lw_m1 79 rfl
theorem q224 : (Jvm.Cond.fieldLinkNest "VisitingHours" (135 : Nat) "VisitingHours$World" "patience" "[I" "VisitingHours") ∈ lw_tbl := lw_at lw_m1 81 rfl
theorem q226 : (Jvm.Cond.fieldLinkNest "VisitingHours" (139 : Nat) "VisitingHours$World" "hours" "[I" "VisitingHours") ∈ lw_tbl := lw_at lw_m1 83 rfl
theorem q228 : (Jvm.Cond.fieldLinkNest "VisitingHours" (145 : Nat) "VisitingHours$World" "glad" "[I" "VisitingHours") ∈ lw_tbl := lw_at lw_m1 85 rfl
theorem q230 : (Jvm.Cond.fieldLinkNest "VisitingHours" (148 : Nat) "VisitingHours$World" "lonely" "[I" "VisitingHours") ∈ lw_tbl := lw_at lw_m1 87 rfl
theorem q232 : (Jvm.Cond.fieldLinkNest "VisitingHours" (171 : Nat) "VisitingHours$World" "stay" "[I" "VisitingHours") ∈ lw_tbl := lw_at lw_m1 89 rfl
theorem q234 : (Jvm.Cond.fieldLinkNest "VisitingHours" (175 : Nat) "VisitingHours$World" "times" "[I" "VisitingHours") ∈ lw_tbl := lw_at lw_m1 91 rfl
theorem q236 : (Jvm.Cond.fieldLinkNest "VisitingHours" (178 : Nat) "VisitingHours$World" "marks" "[I" "VisitingHours") ∈ lw_tbl := lw_at lw_m1 93 rfl
theorem q239 : (Jvm.Cond.fieldLinkNest "VisitingHours" (155 : Nat) "VisitingHours$World" "likes" "[[I" "VisitingHours") ∈ lw_tbl := lw_at lw_m1 96 rfl
theorem q242 : (Jvm.Cond.fieldLinkNest "VisitingHours" (165 : Nat) "VisitingHours$World" "loves" "[[I" "VisitingHours") ∈ lw_tbl := lw_at lw_m1 99 rfl
theorem q244 : (Jvm.Cond.fieldLinkNest "VisitingHours" (415 : Nat) "VisitingHours$World" "booked" "[[I" "VisitingHours") ∈ lw_tbl := lw_at lw_m1 101 rfl
theorem q246 : (Jvm.Cond.fieldLinkNest "VisitingHours" (675 : Nat) "VisitingHours$World" "log" "[I" "VisitingHours") ∈ lw_tbl := lw_at lw_m1 103 rfl
theorem q248 : (Jvm.Cond.fieldLinkNest "VisitingHours" (389 : Nat) "VisitingHours$World" "law" "LVisitingHours$Law;" "VisitingHours") ∈ lw_tbl := lw_at lw_m1 105 rfl
theorem q250 : (Jvm.Cond.fieldLinkNest "VisitingHours" (663 : Nat) "VisitingHours$World" "settled" "I" "VisitingHours") ∈ lw_tbl := lw_at lw_m1 107 rfl
theorem q297 : (Jvm.Cond.classLink "VisitingHours" (22 : Nat) "VisitingHours$Reader") ∈ lw_all := lw_g (lw_at lw_m1 154 rfl) rfl
theorem q299 : (Jvm.Cond.methodLinkNest "VisitingHours" (24 : Nat) ({ cls := "VisitingHours$Reader", name := "<init>", desc := "()V" } : Jvm.MethodName) "VisitingHours") ∈ lw_tbl := lw_at lw_m1 156 rfl
theorem q304 : (Jvm.Cond.fieldLinkNest "VisitingHours" (561 : Nat) "VisitingHours$Reader" "tape" "[B" "VisitingHours") ∈ lw_tbl := lw_at lw_m1 161 rfl
theorem q307 : (Jvm.Cond.fieldLinkNest "VisitingHours" (558 : Nat) "VisitingHours$Reader" "end" "I" "VisitingHours") ∈ lw_tbl := lw_at lw_m1 164 rfl
theorem q309 : (Jvm.Cond.fieldLinkNest "VisitingHours" (192 : Nat) "VisitingHours$Reader" "at" "I" "VisitingHours") ∈ lw_tbl := lw_at lw_m1 166 rfl
theorem q311 : (Jvm.Cond.fieldLinkNest "VisitingHours" (250 : Nat) "VisitingHours$Reader" "begin" "I" "VisitingHours") ∈ lw_tbl := lw_at lw_m1 168 rfl
theorem q313 : (Jvm.Cond.fieldLinkNest "VisitingHours" (82 : Nat) "VisitingHours$Reader" "fault" "I" "VisitingHours") ∈ lw_tbl := lw_at lw_m1 170 rfl
theorem q331 : (Jvm.Cond.classLink "VisitingHours" (29 : Nat) "VisitingHours$Scene") ∈ lw_all := lw_g (lw_at lw_m1 188 rfl) rfl
theorem q333 : (Jvm.Cond.methodLinkNest "VisitingHours" (31 : Nat) ({ cls := "VisitingHours$Scene", name := "<init>", desc := "()V" } : Jvm.MethodName) "VisitingHours") ∈ lw_tbl := lw_at lw_m1 190 rfl
theorem q338 : (Jvm.Cond.fieldLinkNest "VisitingHours" (393 : Nat) "VisitingHours$Scene" "host" "I" "VisitingHours") ∈ lw_tbl := lw_at lw_m1 195 rfl
theorem q340 : (Jvm.Cond.fieldLinkNest "VisitingHours" (395 : Nat) "VisitingHours$Scene" "guest" "I" "VisitingHours") ∈ lw_tbl := lw_at lw_m1 197 rfl
theorem q342 : (Jvm.Cond.fieldLinkNest "VisitingHours" (397 : Nat) "VisitingHours$Scene" "quarter" "I" "VisitingHours") ∈ lw_tbl := lw_at lw_m1 199 rfl
theorem q344 : (Jvm.Cond.fieldLinkNest "VisitingHours" (400 : Nat) "VisitingHours$Scene" "lonely" "I" "VisitingHours") ∈ lw_tbl := lw_at lw_m1 201 rfl
theorem q347 : (Jvm.Cond.fieldLinkNest "VisitingHours" (402 : Nat) "VisitingHours$Scene" "rank" "I" "VisitingHours") ∈ lw_tbl := lw_at lw_m1 204 rfl
theorem q349 : (Jvm.Cond.fieldLinkNest "VisitingHours" (405 : Nat) "VisitingHours$Scene" "loved" "I" "VisitingHours") ∈ lw_tbl := lw_at lw_m1 206 rfl
theorem q351 : (Jvm.Cond.fieldLinkNest "VisitingHours" (408 : Nat) "VisitingHours$Scene" "week" "I" "VisitingHours") ∈ lw_tbl := lw_at lw_m1 208 rfl
theorem q354 : (Jvm.Cond.fieldLinkNest "VisitingHours" (412 : Nat) "VisitingHours$Scene" "marked" "Z" "VisitingHours") ∈ lw_tbl := lw_at lw_m1 211 rfl
theorem q356 : (Jvm.Cond.fieldLinkNest "VisitingHours" (418 : Nat) "VisitingHours$Scene" "expected" "Z" "VisitingHours") ∈ lw_tbl := lw_at lw_m1 213 rfl
theorem q376 : (Jvm.Cond.classLink "VisitingHours" (39 : Nat) "java/util/ArrayList") ∈ lw_all := lw_g (lw_at lw_m1 233 rfl) rfl
theorem q378 : (Jvm.Cond.methodLink "VisitingHours" (41 : Nat) ({ cls := "java/util/ArrayList", name := "<init>", desc := "()V" } : Jvm.MethodName)) ∈ lw_all := lw_g (lw_at lw_m1 235 rfl) rfl
theorem q402 : (Jvm.Cond.classLink "VisitingHours" (46 : Nat) "VisitingHours$Pairs") ∈ lw_all := lw_g (lw_at lw_m2 19 rfl) rfl
theorem q404 : (Jvm.Cond.methodLinkNest "VisitingHours" (48 : Nat) ({ cls := "VisitingHours$Pairs", name := "<init>", desc := "(LVisitingHours;)V" } : Jvm.MethodName) "VisitingHours") ∈ lw_tbl := lw_at lw_m2 21 rfl
theorem q409 : (Jvm.Cond.fieldLinkNest "VisitingHours" (543 : Nat) "VisitingHours$Pairs" "guestOf" "[I" "VisitingHours") ∈ lw_tbl := lw_at lw_m2 26 rfl
theorem q411 : (Jvm.Cond.fieldLinkNest "VisitingHours" (555 : Nat) "VisitingHours$Pairs" "hostOf" "[I" "VisitingHours") ∈ lw_tbl := lw_at lw_m2 28 rfl
theorem q432 : (Jvm.Cond.fieldLink "VisitingHours" (10 : Nat) "VisitingHours" "world" "LVisitingHours$World;") ∈ lw_all := lw_g (lw_at lw_m2 49 rfl) rfl
theorem q434 : (Jvm.Cond.fieldLink "VisitingHours" (16 : Nat) "VisitingHours" "draft" "LVisitingHours$World;") ∈ lw_all := lw_g (lw_at lw_m2 51 rfl) rfl
theorem q435 : (Jvm.Cond.fieldLink "VisitingHours" (19 : Nat) "VisitingHours" "image" "LVisitingHours$World;") ∈ lw_all := lw_g (lw_at lw_m2 52 rfl) rfl
theorem q436 : (Jvm.Cond.fieldLink "VisitingHours" (687 : Nat) "VisitingHours" "hasImage" "Z") ∈ lw_all := lw_g (lw_at lw_m2 53 rfl) rfl
theorem q437 : (Jvm.Cond.fieldLink "VisitingHours" (25 : Nat) "VisitingHours" "reader" "LVisitingHours$Reader;") ∈ lw_all := lw_g (lw_at lw_m2 54 rfl) rfl
theorem q438 : (Jvm.Cond.fieldLink "VisitingHours" (32 : Nat) "VisitingHours" "scene" "LVisitingHours$Scene;") ∈ lw_all := lw_g (lw_at lw_m2 55 rfl) rfl
theorem q439 : (Jvm.Cond.fieldLink "VisitingHours" (456 : Nat) "VisitingHours" "met" "I") ∈ lw_all := lw_g (lw_at lw_m2 56 rfl) rfl
theorem q440 : (Jvm.Cond.fieldLink "VisitingHours" (36 : Nat) "VisitingHours" "then" "LVisitingHours$World;") ∈ lw_all := lw_g (lw_at lw_m2 57 rfl) rfl
theorem q441 : (Jvm.Cond.fieldLink "VisitingHours" (42 : Nat) "VisitingHours" "worlds" "Ljava/util/ArrayList;") ∈ lw_all := lw_g (lw_at lw_m2 58 rfl) rfl
theorem q442 : (Jvm.Cond.fieldLink "VisitingHours" (51 : Nat) "VisitingHours" "pairs" "LVisitingHours$Pairs;") ∈ lw_all := lw_g (lw_at lw_m2 59 rfl) rfl
theorem q443 : (Jvm.Cond.fieldLink "VisitingHours" (55 : Nat) "VisitingHours" "over" "[I") ∈ lw_all := lw_g (lw_at lw_m2 60 rfl) rfl
theorem q444 : (Jvm.Cond.fieldLink "VisitingHours" (59 : Nat) "VisitingHours" "most" "[I") ∈ lw_all := lw_g (lw_at lw_m2 61 rfl) rfl
theorem q445 : (Jvm.Cond.fieldLink "VisitingHours" (62 : Nat) "VisitingHours" "must" "[I") ∈ lw_all := lw_g (lw_at lw_m2 62 rfl) rfl
theorem q446 : (Jvm.Cond.fieldLink "VisitingHours" (65 : Nat) "VisitingHours" "not" "[I") ∈ lw_all := lw_g (lw_at lw_m2 63 rfl) rfl
theorem q447 : (Jvm.Cond.fieldLink "VisitingHours" (68 : Nat) "VisitingHours" "lent" "[I") ∈ lw_all := lw_g (lw_at lw_m2 64 rfl) rfl
theorem q448 : (Jvm.Cond.fieldLink "VisitingHours" (71 : Nat) "VisitingHours" "trial" "LVisitingHours$World;") ∈ lw_all := lw_g (lw_at lw_m2 65 rfl) rfl
theorem q449 : (Jvm.Cond.laysFinal "VisitingHours" "VisitingHours" "world" "LVisitingHours$World;") ∈ lw_all := lw_g (lw_at lw_m2 66 rfl) rfl
theorem q450 : (Jvm.Cond.soleField "VisitingHours" "world") ∈ lw_all := lw_g (lw_at lw_m2 67 rfl) rfl
theorem q451 : (Jvm.Cond.laysFinal "VisitingHours" "VisitingHours" "draft" "LVisitingHours$World;") ∈ lw_all := lw_g (lw_at lw_m2 68 rfl) rfl
theorem q452 : (Jvm.Cond.soleField "VisitingHours" "draft") ∈ lw_all := lw_g (lw_at lw_m2 69 rfl) rfl
theorem q453 : (Jvm.Cond.laysFinal "VisitingHours" "VisitingHours" "image" "LVisitingHours$World;") ∈ lw_all := lw_g (lw_at lw_m2 70 rfl) rfl
theorem q454 : (Jvm.Cond.soleField "VisitingHours" "image") ∈ lw_all := lw_g (lw_at lw_m2 71 rfl) rfl
theorem q455 : (Jvm.Cond.lays "VisitingHours" "VisitingHours" "hasImage" "Z") ∈ lw_all := lw_g (lw_at lw_m2 72 rfl) rfl
theorem q456 : (Jvm.Cond.soleField "VisitingHours" "hasImage") ∈ lw_all := lw_g (lw_at lw_m2 73 rfl) rfl
theorem q457 : (Jvm.Cond.laysFinal "VisitingHours" "VisitingHours" "reader" "LVisitingHours$Reader;") ∈ lw_all := lw_g (lw_at lw_m2 74 rfl) rfl
theorem q458 : (Jvm.Cond.soleField "VisitingHours" "reader") ∈ lw_all := lw_g (lw_at lw_m2 75 rfl) rfl
theorem q459 : (Jvm.Cond.laysFinal "VisitingHours" "VisitingHours" "scene" "LVisitingHours$Scene;") ∈ lw_all := lw_g (lw_at lw_m2 76 rfl) rfl
theorem q460 : (Jvm.Cond.soleField "VisitingHours" "scene") ∈ lw_all := lw_g (lw_at lw_m2 77 rfl) rfl
theorem q461 : (Jvm.Cond.lays "VisitingHours" "VisitingHours" "met" "I") ∈ lw_all := lw_g (lw_at lw_m2 78 rfl) rfl
theorem q462 : (Jvm.Cond.soleField "VisitingHours" "met") ∈ lw_all := lw_g (lw_at lw_m2 79 rfl) rfl
theorem q463 : (Jvm.Cond.laysFinal "VisitingHours" "VisitingHours" "then" "LVisitingHours$World;") ∈ lw_all := lw_g (lw_at lw_m2 80 rfl) rfl
theorem q464 : (Jvm.Cond.soleField "VisitingHours" "then") ∈ lw_all := lw_g (lw_at lw_m2 81 rfl) rfl
theorem q465 : (Jvm.Cond.laysFinal "VisitingHours" "VisitingHours" "worlds" "Ljava/util/ArrayList;") ∈ lw_all := lw_g (lw_at lw_m2 82 rfl) rfl
theorem q466 : (Jvm.Cond.soleField "VisitingHours" "worlds") ∈ lw_all := lw_g (lw_at lw_m2 83 rfl) rfl
theorem q467 : (Jvm.Cond.laysFinal "VisitingHours" "VisitingHours" "pairs" "LVisitingHours$Pairs;") ∈ lw_all := lw_g (lw_at lw_m2 84 rfl) rfl
theorem q468 : (Jvm.Cond.soleField "VisitingHours" "pairs") ∈ lw_all := lw_g (lw_at lw_m2 85 rfl) rfl
theorem q469 : (Jvm.Cond.laysFinal "VisitingHours" "VisitingHours" "over" "[I") ∈ lw_all := lw_g (lw_at lw_m2 86 rfl) rfl
theorem q470 : (Jvm.Cond.soleField "VisitingHours" "over") ∈ lw_all := lw_g (lw_at lw_m2 87 rfl) rfl
theorem q471 : (Jvm.Cond.laysFinal "VisitingHours" "VisitingHours" "most" "[I") ∈ lw_all := lw_g (lw_at lw_m2 88 rfl) rfl
theorem q472 : (Jvm.Cond.soleField "VisitingHours" "most") ∈ lw_all := lw_g (lw_at lw_m2 89 rfl) rfl
theorem q473 : (Jvm.Cond.laysFinal "VisitingHours" "VisitingHours" "must" "[I") ∈ lw_all := lw_g (lw_at lw_m2 90 rfl) rfl
theorem q474 : (Jvm.Cond.soleField "VisitingHours" "must") ∈ lw_all := lw_g (lw_at lw_m2 91 rfl) rfl
theorem q475 : (Jvm.Cond.laysFinal "VisitingHours" "VisitingHours" "not" "[I") ∈ lw_all := lw_g (lw_at lw_m2 92 rfl) rfl
theorem q476 : (Jvm.Cond.soleField "VisitingHours" "not") ∈ lw_all := lw_g (lw_at lw_m2 93 rfl) rfl
theorem q477 : (Jvm.Cond.laysFinal "VisitingHours" "VisitingHours" "lent" "[I") ∈ lw_all := lw_g (lw_at lw_m2 94 rfl) rfl
theorem q478 : (Jvm.Cond.soleField "VisitingHours" "lent") ∈ lw_all := lw_g (lw_at lw_m2 95 rfl) rfl
theorem q479 : (Jvm.Cond.laysFinal "VisitingHours" "VisitingHours" "trial" "LVisitingHours$World;") ∈ lw_all := lw_g (lw_at lw_m2 96 rfl) rfl
theorem q480 : (Jvm.Cond.soleField "VisitingHours" "trial") ∈ lw_all := lw_g (lw_at lw_m2 97 rfl) rfl
theorem q481 : (Jvm.Cond.superclass "VisitingHours" "java/lang/Object") ∈ lw_all := lw_g (lw_at lw_m2 98 rfl) rfl
theorem q483 : (Jvm.Cond.instanceMethod ({ cls := "VisitingHours", name := "feed", desc := "(IIIII)I" } : Jvm.MethodName)) ∈ lw_all := lw_g (lw_at lw_m2 100 rfl) rfl
theorem q484 : (Jvm.Cond.selects "VisitingHours" ({ cls := "VisitingHours", name := "feed", desc := "(IIIII)I" } : Jvm.MethodName) ({ cls := "VisitingHours", name := "feed", desc := "(IIIII)I" } : Jvm.MethodName)) ∈ lw_all := lw_g (lw_at lw_m2 101 rfl) rfl
theorem q485 : (Jvm.Cond.code ({ cls := "VisitingHours", name := "feed", desc := "(IIIII)I" } : Jvm.MethodName) prog_1_method_3_code (6 : Nat) (Option.some Jvm.ClassFile.FieldType.int)) ∈ lw_all := lw_g (lw_at lw_m2 102 rfl) rfl
theorem q486 : (Jvm.Cond.methodLink "VisitingHours" (74 : Nat) ({ cls := "VisitingHours$Reader", name := "add", desc := "([I)I" } : Jvm.MethodName)) ∈ lw_all := lw_g (lw_at lw_m2 103 rfl) rfl
theorem q491 : (Jvm.Cond.instanceMethod ({ cls := "VisitingHours", name := "end", desc := "(I)Z" } : Jvm.MethodName)) ∈ lw_all := lw_g (lw_at lw_m2 108 rfl) rfl
theorem q492 : (Jvm.Cond.selects "VisitingHours" ({ cls := "VisitingHours", name := "end", desc := "(I)Z" } : Jvm.MethodName) ({ cls := "VisitingHours", name := "end", desc := "(I)Z" } : Jvm.MethodName)) ∈ lw_all := lw_g (lw_at lw_m2 109 rfl) rfl
theorem q493 : (Jvm.Cond.code ({ cls := "VisitingHours", name := "end", desc := "(I)Z" } : Jvm.MethodName) prog_1_method_4_code (2 : Nat) (Option.some Jvm.ClassFile.FieldType.boolean)) ∈ lw_all := lw_g (lw_at lw_m2 110 rfl) rfl
theorem q494 : (Jvm.Cond.methodLink "VisitingHours" (78 : Nat) ({ cls := "VisitingHours$Reader", name := "cut", desc := "(I)Z" } : Jvm.MethodName)) ∈ lw_all := lw_g (lw_at lw_m2 111 rfl) rfl
theorem q499 : (Jvm.Cond.instanceMethod ({ cls := "VisitingHours", name := "fault", desc := "()I" } : Jvm.MethodName)) ∈ lw_all := lw_g (lw_at lw_m2 116 rfl) rfl
theorem q500 : (Jvm.Cond.selects "VisitingHours" ({ cls := "VisitingHours", name := "fault", desc := "()I" } : Jvm.MethodName) ({ cls := "VisitingHours", name := "fault", desc := "()I" } : Jvm.MethodName)) ∈ lw_all := lw_g (lw_at lw_m2 117 rfl) rfl
theorem q501 : (Jvm.Cond.code ({ cls := "VisitingHours", name := "fault", desc := "()I" } : Jvm.MethodName) prog_1_method_5_code (1 : Nat) (Option.some Jvm.ClassFile.FieldType.int)) ∈ lw_all := lw_g (lw_at lw_m2 118 rfl) rfl
theorem q503 : (Jvm.Cond.instanceMethod ({ cls := "VisitingHours", name := "meetings", desc := "(Z)I" } : Jvm.MethodName)) ∈ lw_all := lw_g (lw_at lw_m2 120 rfl) rfl
theorem q504 : (Jvm.Cond.selects "VisitingHours" ({ cls := "VisitingHours", name := "meetings", desc := "(Z)I" } : Jvm.MethodName) ({ cls := "VisitingHours", name := "meetings", desc := "(Z)I" } : Jvm.MethodName)) ∈ lw_all := lw_g (lw_at lw_m2 121 rfl) rfl
theorem q505 : (Jvm.Cond.code ({ cls := "VisitingHours", name := "meetings", desc := "(Z)I" } : Jvm.MethodName) prog_1_method_62_code (6 : Nat) (Option.some Jvm.ClassFile.FieldType.int)) ∈ lw_all := lw_g (lw_at lw_m2 122 rfl) rfl
theorem q506 : (Jvm.Cond.methodLink "VisitingHours" (439 : Nat) ({ cls := "VisitingHours", name := "wouldMeet", desc := "(LVisitingHours$World;II)Z" } : Jvm.MethodName)) ∈ lw_all := lw_g (lw_at lw_m2 123 rfl) rfl
theorem q507 : (Jvm.Cond.privateMethod ({ cls := "VisitingHours", name := "wouldMeet", desc := "(LVisitingHours$World;II)Z" } : Jvm.MethodName)) ∈ lw_tbl := lw_at lw_m2 124 rfl
theorem q508 : (Jvm.Cond.instanceMethod ({ cls := "VisitingHours", name := "wouldMeet", desc := "(LVisitingHours$World;II)Z" } : Jvm.MethodName)) ∈ lw_all := lw_g (lw_at lw_m2 125 rfl) rfl
theorem q509 : (Jvm.Cond.code ({ cls := "VisitingHours", name := "wouldMeet", desc := "(LVisitingHours$World;II)Z" } : Jvm.MethodName) prog_1_method_30_code (5 : Nat) (Option.some Jvm.ClassFile.FieldType.boolean)) ∈ lw_all := lw_g (lw_at lw_m2 126 rfl) rfl
theorem q510 : (Jvm.Cond.methodLink "VisitingHours" (432 : Nat) ({ cls := "VisitingHours$World", name := "can", desc := "(III)Z" } : Jvm.MethodName)) ∈ lw_all := lw_g (lw_at lw_m2 127 rfl) rfl
theorem q515 : (Jvm.Cond.static ({ cls := "VisitingHours", name := "has", desc := "(II)Z" } : Jvm.MethodName)) ∈ lw_all := lw_g (lw_at lw_m2 132 rfl) rfl
theorem q516 : (Jvm.Cond.code ({ cls := "VisitingHours", name := "has", desc := "(II)Z" } : Jvm.MethodName) prog_1_method_44_code (2 : Nat) (Option.some Jvm.ClassFile.FieldType.boolean)) ∈ lw_all := lw_g (lw_at lw_m2 133 rfl) rfl
theorem q521 : (Jvm.Cond.methodLink "VisitingHours" (435 : Nat) ({ cls := "VisitingHours", name := "letsIn", desc := "(LVisitingHours$World;III)Z" } : Jvm.MethodName)) ∈ lw_all := lw_g (lw_at lw_m2 138 rfl) rfl
theorem q522 : (Jvm.Cond.privateMethod ({ cls := "VisitingHours", name := "letsIn", desc := "(LVisitingHours$World;III)Z" } : Jvm.MethodName)) ∈ lw_tbl := lw_at lw_m2 139 rfl
theorem q523 : (Jvm.Cond.instanceMethod ({ cls := "VisitingHours", name := "letsIn", desc := "(LVisitingHours$World;III)Z" } : Jvm.MethodName)) ∈ lw_all := lw_g (lw_at lw_m2 140 rfl) rfl
theorem q524 : (Jvm.Cond.code ({ cls := "VisitingHours", name := "letsIn", desc := "(LVisitingHours$World;III)Z" } : Jvm.MethodName) prog_1_method_29_code (5 : Nat) (Option.some Jvm.ClassFile.FieldType.boolean)) ∈ lw_all := lw_g (lw_at lw_m2 141 rfl) rfl
theorem q525 : (Jvm.Cond.methodLink "VisitingHours" (409 : Nat) ({ cls := "VisitingHours$World", name := "isMarked", desc := "(I)Z" } : Jvm.MethodName)) ∈ lw_all := lw_g (lw_at lw_m2 142 rfl) rfl
theorem q529 : (Jvm.Cond.methodLink "VisitingHours" (420 : Nat) ({ cls := "VisitingHours", name := "sceneOf", desc := "(LVisitingHours$World;III)LVisitingHours$Scene;" } : Jvm.MethodName)) ∈ lw_all := lw_g (lw_at lw_m2 146 rfl) rfl
theorem q530 : (Jvm.Cond.privateMethod ({ cls := "VisitingHours", name := "sceneOf", desc := "(LVisitingHours$World;III)LVisitingHours$Scene;" } : Jvm.MethodName)) ∈ lw_tbl := lw_at lw_m2 147 rfl
theorem q531 : (Jvm.Cond.instanceMethod ({ cls := "VisitingHours", name := "sceneOf", desc := "(LVisitingHours$World;III)LVisitingHours$Scene;" } : Jvm.MethodName)) ∈ lw_all := lw_g (lw_at lw_m2 148 rfl) rfl
theorem q532 : (Jvm.Cond.code ({ cls := "VisitingHours", name := "sceneOf", desc := "(LVisitingHours$World;III)LVisitingHours$Scene;" } : Jvm.MethodName) prog_1_method_27_code (5 : Nat) (Option.some (Jvm.ClassFile.FieldType.object "VisitingHours$Scene"))) ∈ lw_all := lw_g (lw_at lw_m2 149 rfl) rfl
theorem q533 : (Jvm.Cond.methodLink "VisitingHours" (428 : Nat) ({ cls := "VisitingHours$Law", name := "admits", desc := "(LVisitingHours$Scene;)Z" } : Jvm.MethodName)) ∈ lw_all := lw_g (lw_at lw_m2 150 rfl) rfl
theorem q618 : (Jvm.Cond.methodLink "VisitingHours" (443 : Nat) ({ cls := "VisitingHours", name := "joyBy", desc := "(LVisitingHours$World;III)I" } : Jvm.MethodName)) ∈ lw_all := lw_g (lw_at lw_m2 235 rfl) rfl
theorem q619 : (Jvm.Cond.privateMethod ({ cls := "VisitingHours", name := "joyBy", desc := "(LVisitingHours$World;III)I" } : Jvm.MethodName)) ∈ lw_tbl := lw_at lw_m2 236 rfl
theorem q620 : (Jvm.Cond.instanceMethod ({ cls := "VisitingHours", name := "joyBy", desc := "(LVisitingHours$World;III)I" } : Jvm.MethodName)) ∈ lw_all := lw_g (lw_at lw_m2 237 rfl) rfl
theorem q621 : (Jvm.Cond.code ({ cls := "VisitingHours", name := "joyBy", desc := "(LVisitingHours$World;III)I" } : Jvm.MethodName) prog_1_method_28_code (5 : Nat) (Option.some Jvm.ClassFile.FieldType.int)) ∈ lw_all := lw_g (lw_at lw_m2 238 rfl) rfl
theorem q622 : (Jvm.Cond.methodLink "VisitingHours" (424 : Nat) ({ cls := "VisitingHours$Law", name := "joy", desc := "(LVisitingHours$Scene;)I" } : Jvm.MethodName)) ∈ lw_all := lw_g (lw_at lw_m2 239 rfl) rfl
theorem q632 : (Jvm.Cond.instanceMethod ({ cls := "VisitingHours", name := "twice", desc := "()I" } : Jvm.MethodName)) ∈ lw_all := lw_g (lw_at lw_m3 9 rfl) rfl
theorem q633 : (Jvm.Cond.selects "VisitingHours" ({ cls := "VisitingHours", name := "twice", desc := "()I" } : Jvm.MethodName) ({ cls := "VisitingHours", name := "twice", desc := "()I" } : Jvm.MethodName)) ∈ lw_all := lw_g (lw_at lw_m3 10 rfl) rfl
theorem q634 : (Jvm.Cond.code ({ cls := "VisitingHours", name := "twice", desc := "()I" } : Jvm.MethodName) prog_1_method_63_code (5 : Nat) (Option.some Jvm.ClassFile.FieldType.int)) ∈ lw_all := lw_g (lw_at lw_m3 11 rfl) rfl
theorem q635 : (Jvm.Cond.methodLink "VisitingHours" (510 : Nat) ({ cls := "VisitingHours$World", name := "sees", desc := "(I)I" } : Jvm.MethodName)) ∈ lw_all := lw_g (lw_at lw_m3 12 rfl) rfl
theorem q639 : (Jvm.Cond.methodLink "VisitingHours" (128 : Nat) ({ cls := "VisitingHours", name := "has", desc := "(II)Z" } : Jvm.MethodName)) ∈ lw_all := lw_g (lw_at lw_m3 16 rfl) rfl
theorem q641 : (Jvm.Cond.instanceMethod ({ cls := "VisitingHours", name := "taboo", desc := "()I" } : Jvm.MethodName)) ∈ lw_all := lw_g (lw_at lw_m3 18 rfl) rfl
theorem q642 : (Jvm.Cond.selects "VisitingHours" ({ cls := "VisitingHours", name := "taboo", desc := "()I" } : Jvm.MethodName) ({ cls := "VisitingHours", name := "taboo", desc := "()I" } : Jvm.MethodName)) ∈ lw_all := lw_g (lw_at lw_m3 19 rfl) rfl
theorem q643 : (Jvm.Cond.code ({ cls := "VisitingHours", name := "taboo", desc := "()I" } : Jvm.MethodName) prog_1_method_64_code (4 : Nat) (Option.some Jvm.ClassFile.FieldType.int)) ∈ lw_all := lw_g (lw_at lw_m3 20 rfl) rfl
theorem q645 : (Jvm.Cond.instanceMethod ({ cls := "VisitingHours", name := "ways", desc := "()I" } : Jvm.MethodName)) ∈ lw_all := lw_g (lw_at lw_m3 22 rfl) rfl
theorem q646 : (Jvm.Cond.selects "VisitingHours" ({ cls := "VisitingHours", name := "ways", desc := "()I" } : Jvm.MethodName) ({ cls := "VisitingHours", name := "ways", desc := "()I" } : Jvm.MethodName)) ∈ lw_all := lw_g (lw_at lw_m3 23 rfl) rfl
theorem q647 : (Jvm.Cond.code ({ cls := "VisitingHours", name := "ways", desc := "()I" } : Jvm.MethodName) prog_1_method_67_code (1 : Nat) (Option.some Jvm.ClassFile.FieldType.int)) ∈ lw_all := lw_g (lw_at lw_m3 24 rfl) rfl
theorem q648 : (Jvm.Cond.methodLink "VisitingHours" (549 : Nat) ({ cls := "VisitingHours$Pairs", name := "allWays", desc := "()I" } : Jvm.MethodName)) ∈ lw_all := lw_g (lw_at lw_m3 25 rfl) rfl
theorem q709 : (Jvm.Cond.instanceMethod ({ cls := "VisitingHours", name := "dry", desc := "()I" } : Jvm.MethodName)) ∈ lw_all := lw_g (lw_at lw_m3 86 rfl) rfl
theorem q710 : (Jvm.Cond.selects "VisitingHours" ({ cls := "VisitingHours", name := "dry", desc := "()I" } : Jvm.MethodName) ({ cls := "VisitingHours", name := "dry", desc := "()I" } : Jvm.MethodName)) ∈ lw_all := lw_g (lw_at lw_m3 87 rfl) rfl
theorem q711 : (Jvm.Cond.code ({ cls := "VisitingHours", name := "dry", desc := "()I" } : Jvm.MethodName) prog_1_method_88_code (3 : Nat) (Option.some Jvm.ClassFile.FieldType.int)) ∈ lw_all := lw_g (lw_at lw_m3 88 rfl) rfl
theorem q712 : (Jvm.Cond.methodLink "VisitingHours" (585 : Nat) ({ cls := "java/lang/Integer", name := "bitCount", desc := "(I)I" } : Jvm.MethodName)) ∈ lw_all := lw_g (lw_at lw_m3 89 rfl) rfl
theorem q718 : (Jvm.Cond.methodLink "VisitingHours" (620 : Nat) ({ cls := "VisitingHours", name := "allMeet", desc := "(I)Z" } : Jvm.MethodName)) ∈ lw_all := lw_g (lw_at lw_m3 95 rfl) rfl
theorem q719 : (Jvm.Cond.privateMethod ({ cls := "VisitingHours", name := "allMeet", desc := "(I)Z" } : Jvm.MethodName)) ∈ lw_tbl := lw_at lw_m3 96 rfl
theorem q720 : (Jvm.Cond.instanceMethod ({ cls := "VisitingHours", name := "allMeet", desc := "(I)Z" } : Jvm.MethodName)) ∈ lw_all := lw_g (lw_at lw_m3 97 rfl) rfl
theorem q721 : (Jvm.Cond.code ({ cls := "VisitingHours", name := "allMeet", desc := "(I)Z" } : Jvm.MethodName) prog_1_method_87_code (3 : Nat) (Option.some Jvm.ClassFile.FieldType.boolean)) ∈ lw_all := lw_g (lw_at lw_m3 98 rfl) rfl
theorem q722 : (Jvm.Cond.methodLink "VisitingHours" (617 : Nat) ({ cls := "VisitingHours", name := "meetsIn", desc := "(I)I" } : Jvm.MethodName)) ∈ lw_all := lw_g (lw_at lw_m3 99 rfl) rfl
theorem q723 : (Jvm.Cond.privateMethod ({ cls := "VisitingHours", name := "meetsIn", desc := "(I)I" } : Jvm.MethodName)) ∈ lw_tbl := lw_at lw_m3 100 rfl
theorem q724 : (Jvm.Cond.instanceMethod ({ cls := "VisitingHours", name := "meetsIn", desc := "(I)I" } : Jvm.MethodName)) ∈ lw_all := lw_g (lw_at lw_m3 101 rfl) rfl
theorem q725 : (Jvm.Cond.code ({ cls := "VisitingHours", name := "meetsIn", desc := "(I)I" } : Jvm.MethodName) prog_1_method_86_code (4 : Nat) (Option.some Jvm.ClassFile.FieldType.int)) ∈ lw_all := lw_g (lw_at lw_m3 102 rfl) rfl
theorem q727 : (Jvm.Cond.instanceMethod ({ cls := "VisitingHours", name := "dearest", desc := "()I" } : Jvm.MethodName)) ∈ lw_all := lw_g (lw_at lw_m3 104 rfl) rfl
theorem q728 : (Jvm.Cond.selects "VisitingHours" ({ cls := "VisitingHours", name := "dearest", desc := "()I" } : Jvm.MethodName) ({ cls := "VisitingHours", name := "dearest", desc := "()I" } : Jvm.MethodName)) ∈ lw_all := lw_g (lw_at lw_m3 105 rfl) rfl
theorem q729 : (Jvm.Cond.code ({ cls := "VisitingHours", name := "dearest", desc := "()I" } : Jvm.MethodName) prog_1_method_103_code (3 : Nat) (Option.some Jvm.ClassFile.FieldType.int)) ∈ lw_all := lw_g (lw_at lw_m3 106 rfl) rfl
theorem q730 : (Jvm.Cond.methodLink "VisitingHours" (519 : Nat) ({ cls := "VisitingHours", name := "likedBy", desc := "(I)I" } : Jvm.MethodName)) ∈ lw_all := lw_g (lw_at lw_m3 107 rfl) rfl
theorem q731 : (Jvm.Cond.privateMethod ({ cls := "VisitingHours", name := "likedBy", desc := "(I)I" } : Jvm.MethodName)) ∈ lw_tbl := lw_at lw_m3 108 rfl
theorem q732 : (Jvm.Cond.instanceMethod ({ cls := "VisitingHours", name := "likedBy", desc := "(I)I" } : Jvm.MethodName)) ∈ lw_all := lw_g (lw_at lw_m3 109 rfl) rfl
theorem q733 : (Jvm.Cond.code ({ cls := "VisitingHours", name := "likedBy", desc := "(I)I" } : Jvm.MethodName) prog_1_method_46_code (4 : Nat) (Option.some Jvm.ClassFile.FieldType.int)) ∈ lw_all := lw_g (lw_at lw_m3 110 rfl) rfl
theorem q735 : (Jvm.Cond.instanceMethod ({ cls := "VisitingHours", name := "forlorn", desc := "()I" } : Jvm.MethodName)) ∈ lw_all := lw_g (lw_at lw_m3 112 rfl) rfl
theorem q736 : (Jvm.Cond.selects "VisitingHours" ({ cls := "VisitingHours", name := "forlorn", desc := "()I" } : Jvm.MethodName) ({ cls := "VisitingHours", name := "forlorn", desc := "()I" } : Jvm.MethodName)) ∈ lw_all := lw_g (lw_at lw_m3 113 rfl) rfl
theorem q737 : (Jvm.Cond.code ({ cls := "VisitingHours", name := "forlorn", desc := "()I" } : Jvm.MethodName) prog_1_method_105_code (3 : Nat) (Option.some Jvm.ClassFile.FieldType.int)) ∈ lw_all := lw_g (lw_at lw_m3 114 rfl) rfl
theorem q738 : (Jvm.Cond.methodLink "VisitingHours" (654 : Nat) ({ cls := "VisitingHours", name := "isForlorn", desc := "(I)Z" } : Jvm.MethodName)) ∈ lw_all := lw_g (lw_at lw_m3 115 rfl) rfl
theorem q739 : (Jvm.Cond.privateMethod ({ cls := "VisitingHours", name := "isForlorn", desc := "(I)Z" } : Jvm.MethodName)) ∈ lw_tbl := lw_at lw_m3 116 rfl
theorem q740 : (Jvm.Cond.instanceMethod ({ cls := "VisitingHours", name := "isForlorn", desc := "(I)Z" } : Jvm.MethodName)) ∈ lw_all := lw_g (lw_at lw_m3 117 rfl) rfl
theorem q741 : (Jvm.Cond.code ({ cls := "VisitingHours", name := "isForlorn", desc := "(I)Z" } : Jvm.MethodName) prog_1_method_104_code (4 : Nat) (Option.some Jvm.ClassFile.FieldType.boolean)) ∈ lw_all := lw_g (lw_at lw_m3 118 rfl) rfl
theorem q743 : (Jvm.Cond.instanceMethod ({ cls := "VisitingHours", name := "alike", desc := "()I" } : Jvm.MethodName)) ∈ lw_all := lw_g (lw_at lw_m3 120 rfl) rfl
theorem q744 : (Jvm.Cond.selects "VisitingHours" ({ cls := "VisitingHours", name := "alike", desc := "()I" } : Jvm.MethodName) ({ cls := "VisitingHours", name := "alike", desc := "()I" } : Jvm.MethodName)) ∈ lw_all := lw_g (lw_at lw_m3 121 rfl) rfl
theorem q745 : (Jvm.Cond.code ({ cls := "VisitingHours", name := "alike", desc := "()I" } : Jvm.MethodName) prog_1_method_107_code (4 : Nat) (Option.some Jvm.ClassFile.FieldType.int)) ∈ lw_all := lw_g (lw_at lw_m3 122 rfl) rfl
theorem q746 : (Jvm.Cond.methodLink "VisitingHours" (657 : Nat) ({ cls := "VisitingHours", name := "likens", desc := "(II)Z" } : Jvm.MethodName)) ∈ lw_all := lw_g (lw_at lw_m3 123 rfl) rfl
theorem q747 : (Jvm.Cond.privateMethod ({ cls := "VisitingHours", name := "likens", desc := "(II)Z" } : Jvm.MethodName)) ∈ lw_tbl := lw_at lw_m3 124 rfl
theorem q748 : (Jvm.Cond.instanceMethod ({ cls := "VisitingHours", name := "likens", desc := "(II)Z" } : Jvm.MethodName)) ∈ lw_all := lw_g (lw_at lw_m3 125 rfl) rfl
theorem q749 : (Jvm.Cond.code ({ cls := "VisitingHours", name := "likens", desc := "(II)Z" } : Jvm.MethodName) prog_1_method_106_code (4 : Nat) (Option.some Jvm.ClassFile.FieldType.boolean)) ∈ lw_all := lw_g (lw_at lw_m3 126 rfl) rfl
theorem q751 : (Jvm.Cond.instanceMethod ({ cls := "VisitingHours", name := "seed", desc := "(I)I" } : Jvm.MethodName)) ∈ lw_all := lw_g (lw_at lw_m3 128 rfl) rfl
theorem q752 : (Jvm.Cond.selects "VisitingHours" ({ cls := "VisitingHours", name := "seed", desc := "(I)I" } : Jvm.MethodName) ({ cls := "VisitingHours", name := "seed", desc := "(I)I" } : Jvm.MethodName)) ∈ lw_all := lw_g (lw_at lw_m3 129 rfl) rfl
theorem q753 : (Jvm.Cond.code ({ cls := "VisitingHours", name := "seed", desc := "(I)I" } : Jvm.MethodName) prog_1_method_117_code (3 : Nat) (Option.some Jvm.ClassFile.FieldType.int)) ∈ lw_all := lw_g (lw_at lw_m3 130 rfl) rfl
theorem q755 : (Jvm.Cond.instanceMethod ({ cls := "VisitingHours", name := "undo", desc := "()Z" } : Jvm.MethodName)) ∈ lw_all := lw_g (lw_at lw_m3 132 rfl) rfl
theorem q756 : (Jvm.Cond.selects "VisitingHours" ({ cls := "VisitingHours", name := "undo", desc := "()Z" } : Jvm.MethodName) ({ cls := "VisitingHours", name := "undo", desc := "()Z" } : Jvm.MethodName)) ∈ lw_all := lw_g (lw_at lw_m3 133 rfl) rfl
theorem q757 : (Jvm.Cond.code ({ cls := "VisitingHours", name := "undo", desc := "()Z" } : Jvm.MethodName) prog_1_method_118_code (1 : Nat) (Option.some Jvm.ClassFile.FieldType.boolean)) ∈ lw_all := lw_g (lw_at lw_m3 134 rfl) rfl
theorem q758 : (Jvm.Cond.methodLink "VisitingHours" (684 : Nat) ({ cls := "java/util/ArrayList", name := "isEmpty", desc := "()Z" } : Jvm.MethodName)) ∈ lw_all := lw_g (lw_at lw_m3 135 rfl) rfl
theorem q762 : (Jvm.Cond.methodLink "VisitingHours" (378 : Nat) ({ cls := "java/util/ArrayList", name := "size", desc := "()I" } : Jvm.MethodName)) ∈ lw_all := lw_g (lw_at lw_m3 139 rfl) rfl
theorem q763 : (Jvm.Cond.methodLink "VisitingHours" (526 : Nat) ({ cls := "java/util/ArrayList", name := "remove", desc := "(I)Ljava/lang/Object;" } : Jvm.MethodName)) ∈ lw_all := lw_g (lw_at lw_m3 140 rfl) rfl
theorem q772 : (Jvm.Cond.methodLink "VisitingHours" (259 : Nat) ({ cls := "VisitingHours$World", name := "likens", desc := "(LVisitingHours$World;)LVisitingHours$World;" } : Jvm.MethodName)) ∈ lw_all := lw_g (lw_at lw_m3 149 rfl) rfl
theorem q781 : (Jvm.Cond.instanceMethod ({ cls := "VisitingHours", name := "image", desc := "()V" } : Jvm.MethodName)) ∈ lw_all := lw_g (lw_at lw_m3 158 rfl) rfl
theorem q782 : (Jvm.Cond.selects "VisitingHours" ({ cls := "VisitingHours", name := "image", desc := "()V" } : Jvm.MethodName) ({ cls := "VisitingHours", name := "image", desc := "()V" } : Jvm.MethodName)) ∈ lw_all := lw_g (lw_at lw_m3 159 rfl) rfl
theorem q783 : (Jvm.Cond.code ({ cls := "VisitingHours", name := "image", desc := "()V" } : Jvm.MethodName) prog_1_method_119_code (1 : Nat) (Option.none : Option Jvm.ClassFile.FieldType)) ∈ lw_all := lw_g (lw_at lw_m3 160 rfl) rfl
theorem q785 : (Jvm.Cond.instanceMethod ({ cls := "VisitingHours", name := "back", desc := "()Z" } : Jvm.MethodName)) ∈ lw_all := lw_g (lw_at lw_m3 162 rfl) rfl
theorem q786 : (Jvm.Cond.selects "VisitingHours" ({ cls := "VisitingHours", name := "back", desc := "()Z" } : Jvm.MethodName) ({ cls := "VisitingHours", name := "back", desc := "()Z" } : Jvm.MethodName)) ∈ lw_all := lw_g (lw_at lw_m3 163 rfl) rfl
theorem q787 : (Jvm.Cond.code ({ cls := "VisitingHours", name := "back", desc := "()Z" } : Jvm.MethodName) prog_1_method_120_code (1 : Nat) (Option.some Jvm.ClassFile.FieldType.boolean)) ∈ lw_all := lw_g (lw_at lw_m3 164 rfl) rfl
theorem q788 : (Jvm.Cond.methodLink "VisitingHours" (277 : Nat) ({ cls := "java/util/ArrayList", name := "clear", desc := "()V" } : Jvm.MethodName)) ∈ lw_all := lw_g (lw_at lw_m3 165 rfl) rfl
theorem q793 : (Jvm.Cond.instanceMethod ({ cls := "VisitingHours", name := "count", desc := "(I)I" } : Jvm.MethodName)) ∈ lw_all := lw_g (lw_at lw_m3 170 rfl) rfl
theorem q794 : (Jvm.Cond.selects "VisitingHours" ({ cls := "VisitingHours", name := "count", desc := "(I)I" } : Jvm.MethodName) ({ cls := "VisitingHours", name := "count", desc := "(I)I" } : Jvm.MethodName)) ∈ lw_all := lw_g (lw_at lw_m3 171 rfl) rfl
theorem q795 : (Jvm.Cond.code ({ cls := "VisitingHours", name := "count", desc := "(I)I" } : Jvm.MethodName) prog_1_method_121_code (3 : Nat) (Option.some Jvm.ClassFile.FieldType.int)) ∈ lw_all := lw_g (lw_at lw_m3 172 rfl) rfl
theorem q796 : (Jvm.Cond.methodLink "VisitingHours" (690 : Nat) ({ cls := "VisitingHours$World", name := "bookings", desc := "()I" } : Jvm.MethodName)) ∈ lw_all := lw_g (lw_at lw_m3 173 rfl) rfl
theorem q800 : (Jvm.Cond.methodLink "VisitingHours" (501 : Nat) ({ cls := "VisitingHours$World", name := "gladness", desc := "()I" } : Jvm.MethodName)) ∈ lw_all := lw_g (lw_at lw_m3 177 rfl) rfl
theorem q810 : (Jvm.Cond.instanceMethod ({ cls := "VisitingHours", name := "ground", desc := "()I" } : Jvm.MethodName)) ∈ lw_all := lw_g (lw_at lw_m3 187 rfl) rfl
theorem q811 : (Jvm.Cond.selects "VisitingHours" ({ cls := "VisitingHours", name := "ground", desc := "()I" } : Jvm.MethodName) ({ cls := "VisitingHours", name := "ground", desc := "()I" } : Jvm.MethodName)) ∈ lw_all := lw_g (lw_at lw_m3 188 rfl) rfl
theorem q812 : (Jvm.Cond.codeWith ({ cls := "VisitingHours", name := "ground", desc := "()I" } : Jvm.MethodName) prog_1_method_18_code (2 : Nat) (Option.some Jvm.ClassFile.FieldType.int) [((19 : Nat), (35 : Nat), (38 : Nat), (266 : Nat))]) ∈ lw_all := lw_g (lw_at lw_m3 189 rfl) rfl
theorem q813 : (Jvm.Cond.classLink "VisitingHours" (266 : Nat) "VisitingHours$Wrong") ∈ lw_all := lw_g (lw_at lw_m3 190 rfl) rfl
theorem q814 : (Jvm.Cond.methodLink "VisitingHours" (256 : Nat) ({ cls := "VisitingHours$Reader", name := "begins", desc := "()V" } : Jvm.MethodName)) ∈ lw_all := lw_g (lw_at lw_m3 191 rfl) rfl
theorem q818 : (Jvm.Cond.methodLink "VisitingHours" (263 : Nat) ({ cls := "VisitingHours", name := "groundText", desc := "(LVisitingHours$World;)V" } : Jvm.MethodName)) ∈ lw_all := lw_g (lw_at lw_m3 195 rfl) rfl
theorem q819 : (Jvm.Cond.privateMethod ({ cls := "VisitingHours", name := "groundText", desc := "(LVisitingHours$World;)V" } : Jvm.MethodName)) ∈ lw_tbl := lw_at lw_m3 196 rfl
theorem q820 : (Jvm.Cond.instanceMethod ({ cls := "VisitingHours", name := "groundText", desc := "(LVisitingHours$World;)V" } : Jvm.MethodName)) ∈ lw_all := lw_g (lw_at lw_m3 197 rfl) rfl
theorem q821 : (Jvm.Cond.code ({ cls := "VisitingHours", name := "groundText", desc := "(LVisitingHours$World;)V" } : Jvm.MethodName) prog_1_method_14_code (3 : Nat) (Option.none : Option Jvm.ClassFile.FieldType)) ∈ lw_all := lw_g (lw_at lw_m3 198 rfl) rfl
theorem q822 : (Jvm.Cond.methodLink "VisitingHours" (233 : Nat) ({ cls := "VisitingHours$Reader", name := "isOver", desc := "()Z" } : Jvm.MethodName)) ∈ lw_all := lw_g (lw_at lw_m3 199 rfl) rfl
theorem q834 : (Jvm.Cond.methodLink "VisitingHours" (237 : Nat) ({ cls := "VisitingHours", name := "noMore", desc := "(II)V" } : Jvm.MethodName)) ∈ lw_all := lw_g (lw_at lw_m3 211 rfl) rfl
theorem q835 : (Jvm.Cond.privateMethod ({ cls := "VisitingHours", name := "noMore", desc := "(II)V" } : Jvm.MethodName)) ∈ lw_tbl := lw_at lw_m3 212 rfl
theorem q836 : (Jvm.Cond.instanceMethod ({ cls := "VisitingHours", name := "noMore", desc := "(II)V" } : Jvm.MethodName)) ∈ lw_all := lw_g (lw_at lw_m3 213 rfl) rfl
theorem q837 : (Jvm.Cond.code ({ cls := "VisitingHours", name := "noMore", desc := "(II)V" } : Jvm.MethodName) prog_1_method_15_code (3 : Nat) (Option.none : Option Jvm.ClassFile.FieldType)) ∈ lw_all := lw_g (lw_at lw_m3 214 rfl) rfl
theorem q838 : (Jvm.Cond.methodLink "VisitingHours" (86 : Nat) ({ cls := "VisitingHours$Reader", name := "word", desc := "()Ljava/lang/String;" } : Jvm.MethodName)) ∈ lw_all := lw_g (lw_at lw_m3 215 rfl) rfl
theorem q843 : (Jvm.Cond.static ({ cls := "VisitingHours", name := "in", desc := "(III)Z" } : Jvm.MethodName)) ∈ lw_all := lw_g (lw_at lw_m3 220 rfl) rfl
theorem q844 : (Jvm.Cond.code ({ cls := "VisitingHours", name := "in", desc := "(III)Z" } : Jvm.MethodName) prog_1_method_2_code (3 : Nat) (Option.some Jvm.ClassFile.FieldType.boolean)) ∈ lw_all := lw_g (lw_at lw_m3 221 rfl) rfl
theorem q1173 : (Jvm.Cond.methodLink "VisitingHours" (96 : Nat) ({ cls := "VisitingHours$Reader", name := "wrong", desc := "()LVisitingHours$Wrong;" } : Jvm.MethodName)) ∈ lw_all := lw_g (lw_at lw_m5 70 rfl) rfl
theorem q1197 : (Jvm.Cond.methodLink "VisitingHours" (241 : Nat) ({ cls := "VisitingHours", name := "groundLine", desc := "(LVisitingHours$World;)V" } : Jvm.MethodName)) ∈ lw_all := lw_g (lw_at lw_m5 94 rfl) rfl
theorem q1198 : (Jvm.Cond.privateMethod ({ cls := "VisitingHours", name := "groundLine", desc := "(LVisitingHours$World;)V" } : Jvm.MethodName)) ∈ lw_tbl := lw_at lw_m5 95 rfl
theorem q1199 : (Jvm.Cond.instanceMethod ({ cls := "VisitingHours", name := "groundLine", desc := "(LVisitingHours$World;)V" } : Jvm.MethodName)) ∈ lw_all := lw_g (lw_at lw_m5 96 rfl) rfl
theorem q1200 : (Jvm.Cond.code ({ cls := "VisitingHours", name := "groundLine", desc := "(LVisitingHours$World;)V" } : Jvm.MethodName) prog_1_method_13_code (5 : Nat) (Option.none : Option Jvm.ClassFile.FieldType)) ∈ lw_all := lw_g (lw_at lw_m5 97 rfl) rfl
theorem q1201 : (Jvm.Cond.methodLink "VisitingHours" (199 : Nat) ({ cls := "java/lang/String", name := "hashCode", desc := "()I" } : Jvm.MethodName)) ∈ lw_all := lw_g (lw_at lw_m5 98 rfl) rfl
theorem q1262 : (Jvm.Cond.stringRef "VisitingHours" (202 : Nat) "host") ∈ lw_tbl := lw_at lw_m5 159 rfl
theorem q1263 : (Jvm.Cond.methodLink "VisitingHours" (90 : Nat) ({ cls := "java/lang/String", name := "equals", desc := "(Ljava/lang/Object;)Z" } : Jvm.MethodName)) ∈ lw_all := lw_g (lw_at lw_m5 160 rfl) rfl
theorem q1271 : (Jvm.Cond.stringRef "VisitingHours" (204 : Nat) "guest") ∈ lw_tbl := lw_at lw_m5 168 rfl
theorem q1272 : (Jvm.Cond.stringRef "VisitingHours" (206 : Nat) "likes") ∈ lw_tbl := lw_at lw_m5 169 rfl
theorem q1273 : (Jvm.Cond.stringRef "VisitingHours" (207 : Nat) "loves") ∈ lw_tbl := lw_at lw_m5 170 rfl
theorem q1274 : (Jvm.Cond.stringRef "VisitingHours" (208 : Nat) "rain") ∈ lw_tbl := lw_at lw_m5 171 rfl
theorem q1275 : (Jvm.Cond.stringRef "VisitingHours" (210 : Nat) "week") ∈ lw_tbl := lw_at lw_m5 172 rfl
theorem q1276 : (Jvm.Cond.stringRef "VisitingHours" (212 : Nat) "needs") ∈ lw_tbl := lw_at lw_m5 173 rfl
theorem q1277 : (Jvm.Cond.stringRef "VisitingHours" (213 : Nat) "bars") ∈ lw_tbl := lw_at lw_m5 174 rfl
theorem q1278 : (Jvm.Cond.methodLink "VisitingHours" (215 : Nat) ({ cls := "VisitingHours", name := "aHost", desc := "(LVisitingHours$World;)V" } : Jvm.MethodName)) ∈ lw_all := lw_g (lw_at lw_m5 175 rfl) rfl
theorem q1279 : (Jvm.Cond.privateMethod ({ cls := "VisitingHours", name := "aHost", desc := "(LVisitingHours$World;)V" } : Jvm.MethodName)) ∈ lw_tbl := lw_at lw_m5 176 rfl
theorem q1280 : (Jvm.Cond.instanceMethod ({ cls := "VisitingHours", name := "aHost", desc := "(LVisitingHours$World;)V" } : Jvm.MethodName)) ∈ lw_all := lw_g (lw_at lw_m5 177 rfl) rfl
theorem q1281 : (Jvm.Cond.code ({ cls := "VisitingHours", name := "aHost", desc := "(LVisitingHours$World;)V" } : Jvm.MethodName) prog_1_method_10_code (4 : Nat) (Option.none : Option Jvm.ClassFile.FieldType)) ∈ lw_all := lw_g (lw_at lw_m5 178 rfl) rfl
theorem q1282 : (Jvm.Cond.stringRef "VisitingHours" (138 : Nat) "patience") ∈ lw_tbl := lw_at lw_m5 179 rfl
theorem q1283 : (Jvm.Cond.methodLink "VisitingHours" (110 : Nat) ({ cls := "VisitingHours", name := "after", desc := "(Ljava/lang/String;II)I" } : Jvm.MethodName)) ∈ lw_all := lw_g (lw_at lw_m5 180 rfl) rfl
theorem q1284 : (Jvm.Cond.privateMethod ({ cls := "VisitingHours", name := "after", desc := "(Ljava/lang/String;II)I" } : Jvm.MethodName)) ∈ lw_tbl := lw_at lw_m5 181 rfl
theorem q1285 : (Jvm.Cond.instanceMethod ({ cls := "VisitingHours", name := "after", desc := "(Ljava/lang/String;II)I" } : Jvm.MethodName)) ∈ lw_all := lw_g (lw_at lw_m5 182 rfl) rfl
theorem q1286 : (Jvm.Cond.code ({ cls := "VisitingHours", name := "after", desc := "(Ljava/lang/String;II)I" } : Jvm.MethodName) prog_1_method_7_code (4 : Nat) (Option.some Jvm.ClassFile.FieldType.int)) ∈ lw_all := lw_g (lw_at lw_m5 183 rfl) rfl
theorem q1287 : (Jvm.Cond.methodLink "VisitingHours" (100 : Nat) ({ cls := "VisitingHours", name := "needs", desc := "(Ljava/lang/String;)V" } : Jvm.MethodName)) ∈ lw_all := lw_g (lw_at lw_m5 184 rfl) rfl
theorem q1288 : (Jvm.Cond.privateMethod ({ cls := "VisitingHours", name := "needs", desc := "(Ljava/lang/String;)V" } : Jvm.MethodName)) ∈ lw_tbl := lw_at lw_m5 185 rfl
theorem q1289 : (Jvm.Cond.instanceMethod ({ cls := "VisitingHours", name := "needs", desc := "(Ljava/lang/String;)V" } : Jvm.MethodName)) ∈ lw_all := lw_g (lw_at lw_m5 186 rfl) rfl
theorem q1290 : (Jvm.Cond.code ({ cls := "VisitingHours", name := "needs", desc := "(Ljava/lang/String;)V" } : Jvm.MethodName) prog_1_method_6_code (2 : Nat) (Option.none : Option Jvm.ClassFile.FieldType)) ∈ lw_all := lw_g (lw_at lw_m5 187 rfl) rfl
theorem q1291 : (Jvm.Cond.methodLink "VisitingHours" (104 : Nat) ({ cls := "VisitingHours$Reader", name := "number", desc := "(II)I" } : Jvm.MethodName)) ∈ lw_all := lw_g (lw_at lw_m5 188 rfl) rfl
theorem q1300 : (Jvm.Cond.methodLink "VisitingHours" (142 : Nat) ({ cls := "VisitingHours", name := "hoursTold", desc := "()I" } : Jvm.MethodName)) ∈ lw_all := lw_g (lw_at lw_m5 197 rfl) rfl
theorem q1301 : (Jvm.Cond.privateMethod ({ cls := "VisitingHours", name := "hoursTold", desc := "()I" } : Jvm.MethodName)) ∈ lw_tbl := lw_at lw_m5 198 rfl
theorem q1302 : (Jvm.Cond.instanceMethod ({ cls := "VisitingHours", name := "hoursTold", desc := "()I" } : Jvm.MethodName)) ∈ lw_all := lw_g (lw_at lw_m5 199 rfl) rfl
theorem q1303 : (Jvm.Cond.code ({ cls := "VisitingHours", name := "hoursTold", desc := "()I" } : Jvm.MethodName) prog_1_method_8_code (3 : Nat) (Option.some Jvm.ClassFile.FieldType.int)) ∈ lw_all := lw_g (lw_at lw_m5 200 rfl) rfl
theorem q1304 : (Jvm.Cond.stringRef "VisitingHours" (108 : Nat) "from") ∈ lw_tbl := lw_at lw_m5 201 rfl
theorem q1305 : (Jvm.Cond.stringRef "VisitingHours" (114 : Nat) "to") ∈ lw_tbl := lw_at lw_m5 202 rfl
theorem q1306 : (Jvm.Cond.methodLink "VisitingHours" (151 : Nat) ({ cls := "VisitingHours$World", name := "strikes", desc := "(I)V" } : Jvm.MethodName)) ∈ lw_all := lw_g (lw_at lw_m5 203 rfl) rfl
theorem q1311 : (Jvm.Cond.methodLink "VisitingHours" (159 : Nat) ({ cls := "java/util/Arrays", name := "fill", desc := "([II)V" } : Jvm.MethodName)) ∈ lw_all := lw_g (lw_at lw_m5 208 rfl) rfl
theorem q1312 : (Jvm.Cond.methodLink "VisitingHours" (219 : Nat) ({ cls := "VisitingHours", name := "aGuest", desc := "(LVisitingHours$World;)V" } : Jvm.MethodName)) ∈ lw_all := lw_g (lw_at lw_m5 209 rfl) rfl
theorem q1313 : (Jvm.Cond.privateMethod ({ cls := "VisitingHours", name := "aGuest", desc := "(LVisitingHours$World;)V" } : Jvm.MethodName)) ∈ lw_tbl := lw_at lw_m5 210 rfl
theorem q1314 : (Jvm.Cond.instanceMethod ({ cls := "VisitingHours", name := "aGuest", desc := "(LVisitingHours$World;)V" } : Jvm.MethodName)) ∈ lw_all := lw_g (lw_at lw_m5 211 rfl) rfl
theorem q1315 : (Jvm.Cond.code ({ cls := "VisitingHours", name := "aGuest", desc := "(LVisitingHours$World;)V" } : Jvm.MethodName) prog_1_method_11_code (4 : Nat) (Option.none : Option Jvm.ClassFile.FieldType)) ∈ lw_all := lw_g (lw_at lw_m5 212 rfl) rfl
theorem q1316 : (Jvm.Cond.stringRef "VisitingHours" (174 : Nat) "stay") ∈ lw_tbl := lw_at lw_m5 213 rfl
theorem q1317 : (Jvm.Cond.stringRef "VisitingHours" (181 : Nat) "marks") ∈ lw_tbl := lw_at lw_m5 214 rfl
theorem q1318 : (Jvm.Cond.methodLink "VisitingHours" (182 : Nat) ({ cls := "VisitingHours$Reader", name := "passes", desc := "(Ljava/lang/String;)Z" } : Jvm.MethodName)) ∈ lw_all := lw_g (lw_at lw_m5 215 rfl) rfl
theorem q1324 : (Jvm.Cond.methodLink "VisitingHours" (186 : Nat) ({ cls := "VisitingHours", name := "marksTold", desc := "()I" } : Jvm.MethodName)) ∈ lw_all := lw_g (lw_at lw_m5 221 rfl) rfl
theorem q1325 : (Jvm.Cond.privateMethod ({ cls := "VisitingHours", name := "marksTold", desc := "()I" } : Jvm.MethodName)) ∈ lw_tbl := lw_at lw_m5 222 rfl
theorem q1326 : (Jvm.Cond.instanceMethod ({ cls := "VisitingHours", name := "marksTold", desc := "()I" } : Jvm.MethodName)) ∈ lw_all := lw_g (lw_at lw_m5 223 rfl) rfl
theorem q1327 : (Jvm.Cond.code ({ cls := "VisitingHours", name := "marksTold", desc := "()I" } : Jvm.MethodName) prog_1_method_9_code (5 : Nat) (Option.some Jvm.ClassFile.FieldType.int)) ∈ lw_all := lw_g (lw_at lw_m5 224 rfl) rfl
theorem q1328 : (Jvm.Cond.methodLink "VisitingHours" (116 : Nat) ({ cls := "java/lang/String", name := "length", desc := "()I" } : Jvm.MethodName)) ∈ lw_all := lw_g (lw_at lw_m5 225 rfl) rfl
theorem q1329 : (Jvm.Cond.methodLink "VisitingHours" (120 : Nat) ({ cls := "java/lang/String", name := "charAt", desc := "(I)C" } : Jvm.MethodName)) ∈ lw_all := lw_g (lw_at lw_m5 226 rfl) rfl
theorem q1340 : (Jvm.Cond.methodLink "VisitingHours" (124 : Nat) ({ cls := "VisitingHours", name := "in", desc := "(III)Z" } : Jvm.MethodName)) ∈ lw_all := lw_g (lw_at lw_m5 237 rfl) rfl
theorem q1341 : (Jvm.Cond.methodLink "VisitingHours" (222 : Nat) ({ cls := "VisitingHours", name := "ranks", desc := "([II)V" } : Jvm.MethodName)) ∈ lw_all := lw_g (lw_at lw_m5 238 rfl) rfl
theorem q1342 : (Jvm.Cond.privateMethod ({ cls := "VisitingHours", name := "ranks", desc := "([II)V" } : Jvm.MethodName)) ∈ lw_tbl := lw_at lw_m5 239 rfl
theorem q1343 : (Jvm.Cond.instanceMethod ({ cls := "VisitingHours", name := "ranks", desc := "([II)V" } : Jvm.MethodName)) ∈ lw_all := lw_g (lw_at lw_m6 0 rfl) rfl
theorem q1344 : (Jvm.Cond.code ({ cls := "VisitingHours", name := "ranks", desc := "([II)V" } : Jvm.MethodName) prog_1_method_12_code (5 : Nat) (Option.none : Option Jvm.ClassFile.FieldType)) ∈ lw_all := lw_g (lw_at lw_m6 1 rfl) rfl
theorem q1345 : (Jvm.Cond.methodLink "VisitingHours" (189 : Nat) ({ cls := "VisitingHours$Reader", name := "blanks", desc := "()V" } : Jvm.MethodName)) ∈ lw_all := lw_g (lw_at lw_m6 2 rfl) rfl
theorem q1346 : (Jvm.Cond.methodLinkNest "VisitingHours" (195 : Nat) ({ cls := "VisitingHours$Reader", name := "byteAt", desc := "(I)I" } : Jvm.MethodName) "VisitingHours") ∈ lw_tbl := lw_at lw_m6 3 rfl
theorem q1347 : (Jvm.Cond.methodLink "VisitingHours" (244 : Nat) ({ cls := "VisitingHours", name := "goesOn", desc := "()Z" } : Jvm.MethodName)) ∈ lw_all := lw_g (lw_at lw_m6 4 rfl) rfl
theorem q1348 : (Jvm.Cond.privateMethod ({ cls := "VisitingHours", name := "goesOn", desc := "()Z" } : Jvm.MethodName)) ∈ lw_tbl := lw_at lw_m6 5 rfl
theorem q1349 : (Jvm.Cond.instanceMethod ({ cls := "VisitingHours", name := "goesOn", desc := "()Z" } : Jvm.MethodName)) ∈ lw_all := lw_g (lw_at lw_m6 6 rfl) rfl
theorem q1350 : (Jvm.Cond.code ({ cls := "VisitingHours", name := "goesOn", desc := "()Z" } : Jvm.MethodName) prog_1_method_16_code (1 : Nat) (Option.some Jvm.ClassFile.FieldType.boolean)) ∈ lw_all := lw_g (lw_at lw_m6 7 rfl) rfl
theorem q1351 : (Jvm.Cond.methodLink "VisitingHours" (247 : Nat) ({ cls := "VisitingHours$Reader", name := "sign", desc := "(I)Z" } : Jvm.MethodName)) ∈ lw_all := lw_g (lw_at lw_m6 8 rfl) rfl
theorem q1355 : (Jvm.Cond.methodLink "VisitingHours" (268 : Nat) ({ cls := "VisitingHours", name := "fails", desc := "()V" } : Jvm.MethodName)) ∈ lw_all := lw_g (lw_at lw_m6 12 rfl) rfl
theorem q1356 : (Jvm.Cond.privateMethod ({ cls := "VisitingHours", name := "fails", desc := "()V" } : Jvm.MethodName)) ∈ lw_tbl := lw_at lw_m6 13 rfl
theorem q1357 : (Jvm.Cond.instanceMethod ({ cls := "VisitingHours", name := "fails", desc := "()V" } : Jvm.MethodName)) ∈ lw_all := lw_g (lw_at lw_m6 14 rfl) rfl
theorem q1358 : (Jvm.Cond.code ({ cls := "VisitingHours", name := "fails", desc := "()V" } : Jvm.MethodName) prog_1_method_17_code (1 : Nat) (Option.none : Option Jvm.ClassFile.FieldType)) ∈ lw_all := lw_g (lw_at lw_m6 15 rfl) rfl
theorem q1359 : (Jvm.Cond.classLink "VisitingHours" (253 : Nat) "java/lang/IllegalArgumentException") ∈ lw_all := lw_g (lw_at lw_m6 16 rfl) rfl
theorem q1360 : (Jvm.Cond.methodLink "VisitingHours" (255 : Nat) ({ cls := "java/lang/IllegalArgumentException", name := "<init>", desc := "()V" } : Jvm.MethodName)) ∈ lw_all := lw_g (lw_at lw_m6 17 rfl) rfl
theorem q1370 : (Jvm.Cond.classLink "VisitingHours" (274 : Nat) "java/lang/UnsupportedOperationException") ∈ lw_all := lw_g (lw_at lw_m6 27 rfl) rfl
theorem q1379 : (Jvm.Cond.methodLink "VisitingHours" (276 : Nat) ({ cls := "java/lang/UnsupportedOperationException", name := "<init>", desc := "()V" } : Jvm.MethodName)) ∈ lw_all := lw_g (lw_at lw_m6 36 rfl) rfl
theorem q1389 : (Jvm.Cond.instanceMethod ({ cls := "VisitingHours", name := "law", desc := "()I" } : Jvm.MethodName)) ∈ lw_all := lw_g (lw_at lw_m6 46 rfl) rfl
theorem q1390 : (Jvm.Cond.selects "VisitingHours" ({ cls := "VisitingHours", name := "law", desc := "()I" } : Jvm.MethodName) ({ cls := "VisitingHours", name := "law", desc := "()I" } : Jvm.MethodName)) ∈ lw_all := lw_g (lw_at lw_m6 47 rfl) rfl
theorem q1391 : (Jvm.Cond.codeWith ({ cls := "VisitingHours", name := "law", desc := "()I" } : Jvm.MethodName) prog_1_method_26_code (2 : Nat) (Option.some Jvm.ClassFile.FieldType.int) [((7 : Nat), (26 : Nat), (29 : Nat), (266 : Nat))]) ∈ lw_all := lw_g (lw_at lw_m6 48 rfl) rfl
theorem q1392 : (Jvm.Cond.methodLink "VisitingHours" (385 : Nat) ({ cls := "VisitingHours", name := "lawText", desc := "()LVisitingHours$Law;" } : Jvm.MethodName)) ∈ lw_all := lw_g (lw_at lw_m6 49 rfl) rfl
theorem q1393 : (Jvm.Cond.privateMethod ({ cls := "VisitingHours", name := "lawText", desc := "()LVisitingHours$Law;" } : Jvm.MethodName)) ∈ lw_tbl := lw_at lw_m6 50 rfl
theorem q1394 : (Jvm.Cond.instanceMethod ({ cls := "VisitingHours", name := "lawText", desc := "()LVisitingHours$Law;" } : Jvm.MethodName)) ∈ lw_all := lw_g (lw_at lw_m6 51 rfl) rfl
theorem q1395 : (Jvm.Cond.code ({ cls := "VisitingHours", name := "lawText", desc := "()LVisitingHours$Law;" } : Jvm.MethodName) prog_1_method_25_code (2 : Nat) (Option.some (Jvm.ClassFile.FieldType.object "VisitingHours$Law"))) ∈ lw_all := lw_g (lw_at lw_m6 52 rfl) rfl
theorem q1396 : (Jvm.Cond.classLink "VisitingHours" (372 : Nat) "VisitingHours$Law") ∈ lw_all := lw_g (lw_at lw_m6 53 rfl) rfl
theorem q1398 : (Jvm.Cond.methodLinkNest "VisitingHours" (374 : Nat) ({ cls := "VisitingHours$Law", name := "<init>", desc := "()V" } : Jvm.MethodName) "VisitingHours") ∈ lw_tbl := lw_at lw_m6 55 rfl
theorem q1405 : (Jvm.Cond.fieldLinkNest "VisitingHours" (375 : Nat) "VisitingHours$Law" "lines" "Ljava/util/ArrayList;" "VisitingHours") ∈ lw_tbl := lw_at lw_m6 62 rfl
theorem q1409 : (Jvm.Cond.methodLink "VisitingHours" (381 : Nat) ({ cls := "VisitingHours", name := "lawLine", desc := "()LVisitingHours$Line;" } : Jvm.MethodName)) ∈ lw_all := lw_g (lw_at lw_m6 66 rfl) rfl
theorem q1410 : (Jvm.Cond.privateMethod ({ cls := "VisitingHours", name := "lawLine", desc := "()LVisitingHours$Line;" } : Jvm.MethodName)) ∈ lw_tbl := lw_at lw_m6 67 rfl
theorem q1411 : (Jvm.Cond.instanceMethod ({ cls := "VisitingHours", name := "lawLine", desc := "()LVisitingHours$Line;" } : Jvm.MethodName)) ∈ lw_all := lw_g (lw_at lw_m6 68 rfl) rfl
theorem q1412 : (Jvm.Cond.code ({ cls := "VisitingHours", name := "lawLine", desc := "()LVisitingHours$Line;" } : Jvm.MethodName) prog_1_method_24_code (3 : Nat) (Option.some (Jvm.ClassFile.FieldType.object "VisitingHours$Line"))) ∈ lw_all := lw_g (lw_at lw_m6 69 rfl) rfl
theorem q1413 : (Jvm.Cond.methodLink "VisitingHours" (356 : Nat) ({ cls := "VisitingHours$Kind", name := "of", desc := "(Ljava/lang/String;)LVisitingHours$Kind;" } : Jvm.MethodName)) ∈ lw_all := lw_g (lw_at lw_m6 70 rfl) rfl
theorem q1428 : (Jvm.Cond.fieldLink "VisitingHours" (361 : Nat) "VisitingHours$Kind" "ADMIT" "LVisitingHours$Kind;") ∈ lw_all := lw_g (lw_at lw_m6 85 rfl) rfl
theorem q1429 : (Jvm.Cond.classLink "VisitingHours" (365 : Nat) "VisitingHours$Line") ∈ lw_all := lw_g (lw_at lw_m6 86 rfl) rfl
theorem q1431 : (Jvm.Cond.stringRef "VisitingHours" (367 : Nat) "if") ∈ lw_tbl := lw_at lw_m6 88 rfl
theorem q1432 : (Jvm.Cond.methodLink "VisitingHours" (309 : Nat) ({ cls := "VisitingHours", name := "cond", desc := "()LVisitingHours$Cond;" } : Jvm.MethodName)) ∈ lw_all := lw_g (lw_at lw_m6 89 rfl) rfl
theorem q1433 : (Jvm.Cond.privateMethod ({ cls := "VisitingHours", name := "cond", desc := "()LVisitingHours$Cond;" } : Jvm.MethodName)) ∈ lw_tbl := lw_at lw_m6 90 rfl
theorem q1434 : (Jvm.Cond.instanceMethod ({ cls := "VisitingHours", name := "cond", desc := "()LVisitingHours$Cond;" } : Jvm.MethodName)) ∈ lw_all := lw_g (lw_at lw_m6 91 rfl) rfl
theorem q1435 : (Jvm.Cond.code ({ cls := "VisitingHours", name := "cond", desc := "()LVisitingHours$Cond;" } : Jvm.MethodName) prog_1_method_23_code (2 : Nat) (Option.some (Jvm.ClassFile.FieldType.object "VisitingHours$Cond"))) ∈ lw_all := lw_g (lw_at lw_m6 92 rfl) rfl
theorem q1436 : (Jvm.Cond.classLink "VisitingHours" (343 : Nat) "VisitingHours$Row") ∈ lw_all := lw_g (lw_at lw_m6 93 rfl) rfl
theorem q1438 : (Jvm.Cond.methodLink "VisitingHours" (345 : Nat) ({ cls := "VisitingHours$Row", name := "<init>", desc := "(Z)V" } : Jvm.MethodName)) ∈ lw_all := lw_g (lw_at lw_m6 95 rfl) rfl
theorem q1446 : (Jvm.Cond.fieldLinkNest "VisitingHours" (346 : Nat) "VisitingHours$Row" "row" "Ljava/util/ArrayList;" "VisitingHours") ∈ lw_tbl := lw_at lw_m6 103 rfl
theorem q1452 : (Jvm.Cond.methodLink "VisitingHours" (351 : Nat) ({ cls := "VisitingHours", name := "allOf", desc := "()LVisitingHours$Cond;" } : Jvm.MethodName)) ∈ lw_all := lw_g (lw_at lw_m6 109 rfl) rfl
theorem q1453 : (Jvm.Cond.privateMethod ({ cls := "VisitingHours", name := "allOf", desc := "()LVisitingHours$Cond;" } : Jvm.MethodName)) ∈ lw_tbl := lw_at lw_m6 110 rfl
theorem q1454 : (Jvm.Cond.instanceMethod ({ cls := "VisitingHours", name := "allOf", desc := "()LVisitingHours$Cond;" } : Jvm.MethodName)) ∈ lw_all := lw_g (lw_at lw_m6 111 rfl) rfl
theorem q1455 : (Jvm.Cond.code ({ cls := "VisitingHours", name := "allOf", desc := "()LVisitingHours$Cond;" } : Jvm.MethodName) prog_1_method_22_code (2 : Nat) (Option.some (Jvm.ClassFile.FieldType.object "VisitingHours$Cond"))) ∈ lw_all := lw_g (lw_at lw_m6 112 rfl) rfl
theorem q1456 : (Jvm.Cond.methodLink "VisitingHours" (317 : Nat) ({ cls := "VisitingHours", name := "atom", desc := "()LVisitingHours$Cond;" } : Jvm.MethodName)) ∈ lw_all := lw_g (lw_at lw_m6 113 rfl) rfl
theorem q1457 : (Jvm.Cond.privateMethod ({ cls := "VisitingHours", name := "atom", desc := "()LVisitingHours$Cond;" } : Jvm.MethodName)) ∈ lw_tbl := lw_at lw_m6 114 rfl
theorem q1458 : (Jvm.Cond.instanceMethod ({ cls := "VisitingHours", name := "atom", desc := "()LVisitingHours$Cond;" } : Jvm.MethodName)) ∈ lw_all := lw_g (lw_at lw_m6 115 rfl) rfl
theorem q1459 : (Jvm.Cond.code ({ cls := "VisitingHours", name := "atom", desc := "()LVisitingHours$Cond;" } : Jvm.MethodName) prog_1_method_21_code (3 : Nat) (Option.some (Jvm.ClassFile.FieldType.object "VisitingHours$Cond"))) ∈ lw_all := lw_g (lw_at lw_m6 116 rfl) rfl
theorem q1460 : (Jvm.Cond.methodLink "VisitingHours" (306 : Nat) ({ cls := "VisitingHours$Reader", name := "goesDeeper", desc := "()V" } : Jvm.MethodName)) ∈ lw_all := lw_g (lw_at lw_m6 117 rfl) rfl
theorem q1464 : (Jvm.Cond.methodLink "VisitingHours" (313 : Nat) ({ cls := "VisitingHours$Reader", name := "comesUp", desc := "()V" } : Jvm.MethodName)) ∈ lw_all := lw_g (lw_at lw_m6 121 rfl) rfl
theorem q1468 : (Jvm.Cond.stringRef "VisitingHours" (316 : Nat) "not") ∈ lw_tbl := lw_at lw_m6 125 rfl
theorem q1469 : (Jvm.Cond.classLink "VisitingHours" (320 : Nat) "VisitingHours$Not") ∈ lw_all := lw_g (lw_at lw_m6 126 rfl) rfl
theorem q1471 : (Jvm.Cond.methodLink "VisitingHours" (322 : Nat) ({ cls := "VisitingHours$Not", name := "<init>", desc := "(LVisitingHours$Cond;)V" } : Jvm.MethodName)) ∈ lw_all := lw_g (lw_at lw_m6 128 rfl) rfl
theorem q1479 : (Jvm.Cond.stringRef "VisitingHours" (325 : Nat) "marked") ∈ lw_tbl := lw_at lw_m6 136 rfl
theorem q1480 : (Jvm.Cond.classLink "VisitingHours" (327 : Nat) "VisitingHours$Tag") ∈ lw_all := lw_g (lw_at lw_m6 137 rfl) rfl
theorem q1482 : (Jvm.Cond.methodLink "VisitingHours" (329 : Nat) ({ cls := "VisitingHours$Tag", name := "<init>", desc := "(Z)V" } : Jvm.MethodName)) ∈ lw_all := lw_g (lw_at lw_m6 139 rfl) rfl
theorem q1490 : (Jvm.Cond.stringRef "VisitingHours" (332 : Nat) "expected") ∈ lw_tbl := lw_at lw_m6 147 rfl
theorem q1491 : (Jvm.Cond.methodLink "VisitingHours" (334 : Nat) ({ cls := "VisitingHours", name := "sum", desc := "()LVisitingHours$Sum;" } : Jvm.MethodName)) ∈ lw_all := lw_g (lw_at lw_m6 148 rfl) rfl
theorem q1492 : (Jvm.Cond.privateMethod ({ cls := "VisitingHours", name := "sum", desc := "()LVisitingHours$Sum;" } : Jvm.MethodName)) ∈ lw_tbl := lw_at lw_m6 149 rfl
theorem q1493 : (Jvm.Cond.instanceMethod ({ cls := "VisitingHours", name := "sum", desc := "()LVisitingHours$Sum;" } : Jvm.MethodName)) ∈ lw_all := lw_g (lw_at lw_m6 150 rfl) rfl
theorem q1494 : (Jvm.Cond.code ({ cls := "VisitingHours", name := "sum", desc := "()LVisitingHours$Sum;" } : Jvm.MethodName) prog_1_method_20_code (2 : Nat) (Option.some (Jvm.ClassFile.FieldType.object "VisitingHours$Sum"))) ∈ lw_all := lw_g (lw_at lw_m6 151 rfl) rfl
theorem q1495 : (Jvm.Cond.classLink "VisitingHours" (294 : Nat) "VisitingHours$Sum") ∈ lw_all := lw_g (lw_at lw_m6 152 rfl) rfl
theorem q1497 : (Jvm.Cond.methodLinkNest "VisitingHours" (296 : Nat) ({ cls := "VisitingHours$Sum", name := "<init>", desc := "()V" } : Jvm.MethodName) "VisitingHours") ∈ lw_tbl := lw_at lw_m6 154 rfl
theorem q1504 : (Jvm.Cond.fieldLinkNest "VisitingHours" (297 : Nat) "VisitingHours$Sum" "parts" "Ljava/util/ArrayList;" "VisitingHours") ∈ lw_tbl := lw_at lw_m6 161 rfl
theorem q1508 : (Jvm.Cond.methodLink "VisitingHours" (300 : Nat) ({ cls := "VisitingHours", name := "onePart", desc := "()LVisitingHours$Part;" } : Jvm.MethodName)) ∈ lw_all := lw_g (lw_at lw_m6 165 rfl) rfl
theorem q1509 : (Jvm.Cond.privateMethod ({ cls := "VisitingHours", name := "onePart", desc := "()LVisitingHours$Part;" } : Jvm.MethodName)) ∈ lw_tbl := lw_at lw_m6 166 rfl
theorem q1510 : (Jvm.Cond.instanceMethod ({ cls := "VisitingHours", name := "onePart", desc := "()LVisitingHours$Part;" } : Jvm.MethodName)) ∈ lw_all := lw_g (lw_at lw_m6 167 rfl) rfl
theorem q1511 : (Jvm.Cond.code ({ cls := "VisitingHours", name := "onePart", desc := "()LVisitingHours$Part;" } : Jvm.MethodName) prog_1_method_19_code (2 : Nat) (Option.some (Jvm.ClassFile.FieldType.object "VisitingHours$Part"))) ∈ lw_all := lw_g (lw_at lw_m6 168 rfl) rfl
theorem q1512 : (Jvm.Cond.methodLink "VisitingHours" (280 : Nat) ({ cls := "VisitingHours$Reader", name := "isFigure", desc := "()Z" } : Jvm.MethodName)) ∈ lw_all := lw_g (lw_at lw_m6 169 rfl) rfl
theorem q1516 : (Jvm.Cond.classLink "VisitingHours" (283 : Nat) "VisitingHours$Part") ∈ lw_all := lw_g (lw_at lw_m6 173 rfl) rfl
theorem q1518 : (Jvm.Cond.methodLink "VisitingHours" (285 : Nat) ({ cls := "VisitingHours$Part", name := "<init>", desc := "(ILVisitingHours$Fact;)V" } : Jvm.MethodName)) ∈ lw_all := lw_g (lw_at lw_m6 175 rfl) rfl
theorem q1529 : (Jvm.Cond.methodLink "VisitingHours" (288 : Nat) ({ cls := "VisitingHours$Fact", name := "of", desc := "(Ljava/lang/String;)LVisitingHours$Fact;" } : Jvm.MethodName)) ∈ lw_all := lw_g (lw_at lw_m6 186 rfl) rfl
theorem q1544 : (Jvm.Cond.methodLink "VisitingHours" (304 : Nat) ({ cls := "java/util/ArrayList", name := "add", desc := "(Ljava/lang/Object;)Z" } : Jvm.MethodName)) ∈ lw_all := lw_g (lw_at lw_m6 201 rfl) rfl
theorem q1567 : (Jvm.Cond.selects "VisitingHours" ({ cls := "java/lang/Object", name := "getClass", desc := "()Ljava/lang/Class;" } : Jvm.MethodName) ({ cls := "java/lang/Object", name := "getClass", desc := "()Ljava/lang/Class;" } : Jvm.MethodName)) ∈ lw_all := lw_g (lw_at lw_m6 224 rfl) rfl
theorem q1603 : (Jvm.Cond.classLink "VisitingHours" (338 : Nat) "VisitingHours$Less") ∈ lw_all := lw_g (lw_at lw_m7 20 rfl) rfl
theorem q1605 : (Jvm.Cond.methodLink "VisitingHours" (340 : Nat) ({ cls := "VisitingHours$Less", name := "<init>", desc := "(LVisitingHours$Sum;LVisitingHours$Sum;)V" } : Jvm.MethodName)) ∈ lw_all := lw_g (lw_at lw_m7 22 rfl) rfl
theorem q1616 : (Jvm.Cond.stringRef "VisitingHours" (349 : Nat) "and") ∈ lw_tbl := lw_at lw_m7 33 rfl
theorem q1617 : (Jvm.Cond.stringRef "VisitingHours" (354 : Nat) "or") ∈ lw_tbl := lw_at lw_m7 34 rfl
theorem q1618 : (Jvm.Cond.methodLink "VisitingHours" (369 : Nat) ({ cls := "VisitingHours$Line", name := "<init>", desc := "(LVisitingHours$Kind;ILVisitingHours$Cond;)V" } : Jvm.MethodName)) ∈ lw_all := lw_g (lw_at lw_m7 35 rfl) rfl
theorem q1658 : (Jvm.Cond.instanceMethod ({ cls := "VisitingHours", name := "host", desc := "(II)I" } : Jvm.MethodName)) ∈ lw_all := lw_g (lw_at lw_m7 75 rfl) rfl
theorem q1659 : (Jvm.Cond.selects "VisitingHours" ({ cls := "VisitingHours", name := "host", desc := "(II)I" } : Jvm.MethodName) ({ cls := "VisitingHours", name := "host", desc := "(II)I" } : Jvm.MethodName)) ∈ lw_all := lw_g (lw_at lw_m7 76 rfl) rfl
theorem q1660 : (Jvm.Cond.code ({ cls := "VisitingHours", name := "host", desc := "(II)I" } : Jvm.MethodName) prog_1_method_47_code (4 : Nat) (Option.some Jvm.ClassFile.FieldType.int)) ∈ lw_all := lw_g (lw_at lw_m7 77 rfl) rfl
theorem q1661 : (Jvm.Cond.methodLink "VisitingHours" (489 : Nat) ({ cls := "VisitingHours", name := "hostAt", desc := "(I)V" } : Jvm.MethodName)) ∈ lw_all := lw_g (lw_at lw_m7 78 rfl) rfl
theorem q1662 : (Jvm.Cond.privateMethod ({ cls := "VisitingHours", name := "hostAt", desc := "(I)V" } : Jvm.MethodName)) ∈ lw_tbl := lw_at lw_m7 79 rfl
theorem q1663 : (Jvm.Cond.instanceMethod ({ cls := "VisitingHours", name := "hostAt", desc := "(I)V" } : Jvm.MethodName)) ∈ lw_all := lw_g (lw_at lw_m7 80 rfl) rfl
theorem q1664 : (Jvm.Cond.code ({ cls := "VisitingHours", name := "hostAt", desc := "(I)V" } : Jvm.MethodName) prog_1_method_38_code (2 : Nat) (Option.none : Option Jvm.ClassFile.FieldType)) ∈ lw_all := lw_g (lw_at lw_m7 81 rfl) rfl
theorem q1665 : (Jvm.Cond.methodLink "VisitingHours" (486 : Nat) ({ cls := "VisitingHours", name := "there", desc := "(II)V" } : Jvm.MethodName)) ∈ lw_all := lw_g (lw_at lw_m7 82 rfl) rfl
theorem q1666 : (Jvm.Cond.static ({ cls := "VisitingHours", name := "there", desc := "(II)V" } : Jvm.MethodName)) ∈ lw_all := lw_g (lw_at lw_m7 83 rfl) rfl
theorem q1667 : (Jvm.Cond.code ({ cls := "VisitingHours", name := "there", desc := "(II)V" } : Jvm.MethodName) prog_1_method_34_code (2 : Nat) (Option.none : Option Jvm.ClassFile.FieldType)) ∈ lw_all := lw_g (lw_at lw_m7 84 rfl) rfl
theorem q1668 : (Jvm.Cond.classLink "VisitingHours" (477 : Nat) "java/lang/IndexOutOfBoundsException") ∈ lw_all := lw_g (lw_at lw_m7 85 rfl) rfl
theorem q1677 : (Jvm.Cond.methodLink "VisitingHours" (479 : Nat) ({ cls := "java/lang/IndexOutOfBoundsException", name := "<init>", desc := "()V" } : Jvm.MethodName)) ∈ lw_all := lw_g (lw_at lw_m7 94 rfl) rfl
theorem q1683 : (Jvm.Cond.methodLink "VisitingHours" (504 : Nat) ({ cls := "VisitingHours", name := "question", desc := "(II)V" } : Jvm.MethodName)) ∈ lw_all := lw_g (lw_at lw_m7 100 rfl) rfl
theorem q1684 : (Jvm.Cond.static ({ cls := "VisitingHours", name := "question", desc := "(II)V" } : Jvm.MethodName)) ∈ lw_all := lw_g (lw_at lw_m7 101 rfl) rfl
theorem q1685 : (Jvm.Cond.code ({ cls := "VisitingHours", name := "question", desc := "(II)V" } : Jvm.MethodName) prog_1_method_37_code (2 : Nat) (Option.none : Option Jvm.ClassFile.FieldType)) ∈ lw_all := lw_g (lw_at lw_m7 102 rfl) rfl
theorem q1686 : (Jvm.Cond.classLink "VisitingHours" (483 : Nat) "java/util/NoSuchElementException") ∈ lw_all := lw_g (lw_at lw_m7 103 rfl) rfl
theorem q1695 : (Jvm.Cond.methodLink "VisitingHours" (485 : Nat) ({ cls := "java/util/NoSuchElementException", name := "<init>", desc := "()V" } : Jvm.MethodName)) ∈ lw_all := lw_g (lw_at lw_m7 112 rfl) rfl
theorem q1701 : (Jvm.Cond.methodLink "VisitingHours" (507 : Nat) ({ cls := "VisitingHours$World", name := "free", desc := "(I)I" } : Jvm.MethodName)) ∈ lw_all := lw_g (lw_at lw_m7 118 rfl) rfl
theorem q1705 : (Jvm.Cond.methodLink "VisitingHours" (513 : Nat) ({ cls := "VisitingHours", name := "shareOf", desc := "(I)I" } : Jvm.MethodName)) ∈ lw_all := lw_g (lw_at lw_m7 122 rfl) rfl
theorem q1706 : (Jvm.Cond.privateMethod ({ cls := "VisitingHours", name := "shareOf", desc := "(I)I" } : Jvm.MethodName)) ∈ lw_tbl := lw_at lw_m7 123 rfl
theorem q1707 : (Jvm.Cond.instanceMethod ({ cls := "VisitingHours", name := "shareOf", desc := "(I)I" } : Jvm.MethodName)) ∈ lw_all := lw_g (lw_at lw_m7 124 rfl) rfl
theorem q1708 : (Jvm.Cond.code ({ cls := "VisitingHours", name := "shareOf", desc := "(I)I" } : Jvm.MethodName) prog_1_method_45_code (3 : Nat) (Option.some Jvm.ClassFile.FieldType.int)) ∈ lw_all := lw_g (lw_at lw_m7 125 rfl) rfl
theorem q1713 : (Jvm.Cond.instanceMethod ({ cls := "VisitingHours", name := "guest", desc := "(II)I" } : Jvm.MethodName)) ∈ lw_all := lw_g (lw_at lw_m7 130 rfl) rfl
theorem q1714 : (Jvm.Cond.selects "VisitingHours" ({ cls := "VisitingHours", name := "guest", desc := "(II)I" } : Jvm.MethodName) ({ cls := "VisitingHours", name := "guest", desc := "(II)I" } : Jvm.MethodName)) ∈ lw_all := lw_g (lw_at lw_m7 131 rfl) rfl
theorem q1715 : (Jvm.Cond.code ({ cls := "VisitingHours", name := "guest", desc := "(II)I" } : Jvm.MethodName) prog_1_method_48_code (4 : Nat) (Option.some Jvm.ClassFile.FieldType.int)) ∈ lw_all := lw_g (lw_at lw_m7 132 rfl) rfl
theorem q1716 : (Jvm.Cond.methodLink "VisitingHours" (492 : Nat) ({ cls := "VisitingHours", name := "guestAt", desc := "(I)V" } : Jvm.MethodName)) ∈ lw_all := lw_g (lw_at lw_m7 133 rfl) rfl
theorem q1717 : (Jvm.Cond.privateMethod ({ cls := "VisitingHours", name := "guestAt", desc := "(I)V" } : Jvm.MethodName)) ∈ lw_tbl := lw_at lw_m7 134 rfl
theorem q1718 : (Jvm.Cond.instanceMethod ({ cls := "VisitingHours", name := "guestAt", desc := "(I)V" } : Jvm.MethodName)) ∈ lw_all := lw_g (lw_at lw_m7 135 rfl) rfl
theorem q1719 : (Jvm.Cond.code ({ cls := "VisitingHours", name := "guestAt", desc := "(I)V" } : Jvm.MethodName) prog_1_method_39_code (2 : Nat) (Option.none : Option Jvm.ClassFile.FieldType)) ∈ lw_all := lw_g (lw_at lw_m7 136 rfl) rfl
theorem q1720 : (Jvm.Cond.methodLink "VisitingHours" (516 : Nat) ({ cls := "VisitingHours$World", name := "busy", desc := "(I)I" } : Jvm.MethodName)) ∈ lw_all := lw_g (lw_at lw_m7 137 rfl) rfl
theorem q1728 : (Jvm.Cond.instanceMethod ({ cls := "VisitingHours", name := "rank", desc := "(IIZ)I" } : Jvm.MethodName)) ∈ lw_all := lw_g (lw_at lw_m7 145 rfl) rfl
theorem q1729 : (Jvm.Cond.selects "VisitingHours" ({ cls := "VisitingHours", name := "rank", desc := "(IIZ)I" } : Jvm.MethodName) ({ cls := "VisitingHours", name := "rank", desc := "(IIZ)I" } : Jvm.MethodName)) ∈ lw_all := lw_g (lw_at lw_m7 146 rfl) rfl
theorem q1730 : (Jvm.Cond.code ({ cls := "VisitingHours", name := "rank", desc := "(IIZ)I" } : Jvm.MethodName) prog_1_method_49_code (4 : Nat) (Option.some Jvm.ClassFile.FieldType.int)) ∈ lw_all := lw_g (lw_at lw_m7 147 rfl) rfl
theorem q1735 : (Jvm.Cond.instanceMethod ({ cls := "VisitingHours", name := "booked", desc := "(II)I" } : Jvm.MethodName)) ∈ lw_all := lw_g (lw_at lw_m7 152 rfl) rfl
theorem q1736 : (Jvm.Cond.selects "VisitingHours" ({ cls := "VisitingHours", name := "booked", desc := "(II)I" } : Jvm.MethodName) ({ cls := "VisitingHours", name := "booked", desc := "(II)I" } : Jvm.MethodName)) ∈ lw_all := lw_g (lw_at lw_m7 153 rfl) rfl
theorem q1737 : (Jvm.Cond.code ({ cls := "VisitingHours", name := "booked", desc := "(II)I" } : Jvm.MethodName) prog_1_method_50_code (3 : Nat) (Option.some Jvm.ClassFile.FieldType.int)) ∈ lw_all := lw_g (lw_at lw_m7 154 rfl) rfl
theorem q1738 : (Jvm.Cond.methodLink "VisitingHours" (495 : Nat) ({ cls := "VisitingHours", name := "quarterAt", desc := "(I)V" } : Jvm.MethodName)) ∈ lw_all := lw_g (lw_at lw_m7 155 rfl) rfl
theorem q1739 : (Jvm.Cond.static ({ cls := "VisitingHours", name := "quarterAt", desc := "(I)V" } : Jvm.MethodName)) ∈ lw_all := lw_g (lw_at lw_m7 156 rfl) rfl
theorem q1740 : (Jvm.Cond.code ({ cls := "VisitingHours", name := "quarterAt", desc := "(I)V" } : Jvm.MethodName) prog_1_method_40_code (1 : Nat) (Option.none : Option Jvm.ClassFile.FieldType)) ∈ lw_all := lw_g (lw_at lw_m7 157 rfl) rfl
theorem q1745 : (Jvm.Cond.instanceMethod ({ cls := "VisitingHours", name := "can", desc := "(III)Z" } : Jvm.MethodName)) ∈ lw_all := lw_g (lw_at lw_m7 162 rfl) rfl
theorem q1746 : (Jvm.Cond.selects "VisitingHours" ({ cls := "VisitingHours", name := "can", desc := "(III)Z" } : Jvm.MethodName) ({ cls := "VisitingHours", name := "can", desc := "(III)Z" } : Jvm.MethodName)) ∈ lw_all := lw_g (lw_at lw_m7 163 rfl) rfl
theorem q1747 : (Jvm.Cond.code ({ cls := "VisitingHours", name := "can", desc := "(III)Z" } : Jvm.MethodName) prog_1_method_51_code (4 : Nat) (Option.some Jvm.ClassFile.FieldType.boolean)) ∈ lw_all := lw_g (lw_at lw_m7 164 rfl) rfl
theorem q1748 : (Jvm.Cond.methodLink "VisitingHours" (522 : Nat) ({ cls := "VisitingHours", name := "allAt", desc := "(III)V" } : Jvm.MethodName)) ∈ lw_all := lw_g (lw_at lw_m7 165 rfl) rfl
theorem q1749 : (Jvm.Cond.privateMethod ({ cls := "VisitingHours", name := "allAt", desc := "(III)V" } : Jvm.MethodName)) ∈ lw_tbl := lw_at lw_m7 166 rfl
theorem q1750 : (Jvm.Cond.instanceMethod ({ cls := "VisitingHours", name := "allAt", desc := "(III)V" } : Jvm.MethodName)) ∈ lw_all := lw_g (lw_at lw_m7 167 rfl) rfl
theorem q1751 : (Jvm.Cond.code ({ cls := "VisitingHours", name := "allAt", desc := "(III)V" } : Jvm.MethodName) prog_1_method_41_code (4 : Nat) (Option.none : Option Jvm.ClassFile.FieldType)) ∈ lw_all := lw_g (lw_at lw_m7 168 rfl) rfl
theorem q1756 : (Jvm.Cond.instanceMethod ({ cls := "VisitingHours", name := "lets", desc := "(III)Z" } : Jvm.MethodName)) ∈ lw_all := lw_g (lw_at lw_m7 173 rfl) rfl
theorem q1757 : (Jvm.Cond.selects "VisitingHours" ({ cls := "VisitingHours", name := "lets", desc := "(III)Z" } : Jvm.MethodName) ({ cls := "VisitingHours", name := "lets", desc := "(III)Z" } : Jvm.MethodName)) ∈ lw_all := lw_g (lw_at lw_m7 174 rfl) rfl
theorem q1758 : (Jvm.Cond.code ({ cls := "VisitingHours", name := "lets", desc := "(III)Z" } : Jvm.MethodName) prog_1_method_52_code (4 : Nat) (Option.some Jvm.ClassFile.FieldType.boolean)) ∈ lw_all := lw_g (lw_at lw_m7 175 rfl) rfl
theorem q1763 : (Jvm.Cond.instanceMethod ({ cls := "VisitingHours", name := "joy", desc := "(III)I" } : Jvm.MethodName)) ∈ lw_all := lw_g (lw_at lw_m7 180 rfl) rfl
theorem q1764 : (Jvm.Cond.selects "VisitingHours" ({ cls := "VisitingHours", name := "joy", desc := "(III)I" } : Jvm.MethodName) ({ cls := "VisitingHours", name := "joy", desc := "(III)I" } : Jvm.MethodName)) ∈ lw_all := lw_g (lw_at lw_m7 181 rfl) rfl
theorem q1765 : (Jvm.Cond.code ({ cls := "VisitingHours", name := "joy", desc := "(III)I" } : Jvm.MethodName) prog_1_method_53_code (4 : Nat) (Option.some Jvm.ClassFile.FieldType.int)) ∈ lw_all := lw_g (lw_at lw_m7 182 rfl) rfl
theorem q1771 : (Jvm.Cond.instanceMethod ({ cls := "VisitingHours", name := "book", desc := "(III)I" } : Jvm.MethodName)) ∈ lw_all := lw_g (lw_at lw_m7 188 rfl) rfl
theorem q1772 : (Jvm.Cond.selects "VisitingHours" ({ cls := "VisitingHours", name := "book", desc := "(III)I" } : Jvm.MethodName) ({ cls := "VisitingHours", name := "book", desc := "(III)I" } : Jvm.MethodName)) ∈ lw_all := lw_g (lw_at lw_m7 189 rfl) rfl
theorem q1773 : (Jvm.Cond.code ({ cls := "VisitingHours", name := "book", desc := "(III)I" } : Jvm.MethodName) prog_1_method_55_code (5 : Nat) (Option.some Jvm.ClassFile.FieldType.int)) ∈ lw_all := lw_g (lw_at lw_m7 190 rfl) rfl
theorem q1774 : (Jvm.Cond.methodLink "VisitingHours" (530 : Nat) ({ cls := "VisitingHours", name := "may", desc := "(Z)V" } : Jvm.MethodName)) ∈ lw_all := lw_g (lw_at lw_m7 191 rfl) rfl
theorem q1775 : (Jvm.Cond.static ({ cls := "VisitingHours", name := "may", desc := "(Z)V" } : Jvm.MethodName)) ∈ lw_all := lw_g (lw_at lw_m7 192 rfl) rfl
theorem q1776 : (Jvm.Cond.code ({ cls := "VisitingHours", name := "may", desc := "(Z)V" } : Jvm.MethodName) prog_1_method_36_code (1 : Nat) (Option.none : Option Jvm.ClassFile.FieldType)) ∈ lw_all := lw_g (lw_at lw_m7 193 rfl) rfl
theorem q1777 : (Jvm.Cond.classLink "VisitingHours" (480 : Nat) "java/lang/IllegalStateException") ∈ lw_all := lw_g (lw_at lw_m7 194 rfl) rfl
theorem q1786 : (Jvm.Cond.methodLink "VisitingHours" (482 : Nat) ({ cls := "java/lang/IllegalStateException", name := "<init>", desc := "()V" } : Jvm.MethodName)) ∈ lw_all := lw_g (lw_at lw_m7 203 rfl) rfl
theorem q1792 : (Jvm.Cond.methodLink "VisitingHours" (533 : Nat) ({ cls := "VisitingHours", name := "remembers", desc := "()V" } : Jvm.MethodName)) ∈ lw_all := lw_g (lw_at lw_m7 209 rfl) rfl
theorem q1793 : (Jvm.Cond.privateMethod ({ cls := "VisitingHours", name := "remembers", desc := "()V" } : Jvm.MethodName)) ∈ lw_tbl := lw_at lw_m7 210 rfl
theorem q1794 : (Jvm.Cond.instanceMethod ({ cls := "VisitingHours", name := "remembers", desc := "()V" } : Jvm.MethodName)) ∈ lw_all := lw_g (lw_at lw_m7 211 rfl) rfl
theorem q1795 : (Jvm.Cond.code ({ cls := "VisitingHours", name := "remembers", desc := "()V" } : Jvm.MethodName) prog_1_method_54_code (2 : Nat) (Option.none : Option Jvm.ClassFile.FieldType)) ∈ lw_all := lw_g (lw_at lw_m7 212 rfl) rfl
theorem q1800 : (Jvm.Cond.instanceMethod ({ cls := "VisitingHours", name := "strike", desc := "(II)I" } : Jvm.MethodName)) ∈ lw_all := lw_g (lw_at lw_m7 217 rfl) rfl
theorem q1801 : (Jvm.Cond.selects "VisitingHours" ({ cls := "VisitingHours", name := "strike", desc := "(II)I" } : Jvm.MethodName) ({ cls := "VisitingHours", name := "strike", desc := "(II)I" } : Jvm.MethodName)) ∈ lw_all := lw_g (lw_at lw_m7 218 rfl) rfl
theorem q1802 : (Jvm.Cond.code ({ cls := "VisitingHours", name := "strike", desc := "(II)I" } : Jvm.MethodName) prog_1_method_56_code (4 : Nat) (Option.some Jvm.ClassFile.FieldType.int)) ∈ lw_all := lw_g (lw_at lw_m7 219 rfl) rfl
theorem q1807 : (Jvm.Cond.instanceMethod ({ cls := "VisitingHours", name := "change", desc := "(III)I" } : Jvm.MethodName)) ∈ lw_all := lw_g (lw_at lw_m7 224 rfl) rfl
theorem q1808 : (Jvm.Cond.selects "VisitingHours" ({ cls := "VisitingHours", name := "change", desc := "(III)I" } : Jvm.MethodName) ({ cls := "VisitingHours", name := "change", desc := "(III)I" } : Jvm.MethodName)) ∈ lw_all := lw_g (lw_at lw_m7 225 rfl) rfl
theorem q1809 : (Jvm.Cond.code ({ cls := "VisitingHours", name := "change", desc := "(III)I" } : Jvm.MethodName) prog_1_method_57_code (5 : Nat) (Option.some Jvm.ClassFile.FieldType.int)) ∈ lw_all := lw_g (lw_at lw_m7 226 rfl) rfl
theorem q1810 : (Jvm.Cond.methodLink "VisitingHours" (536 : Nat) ({ cls := "VisitingHours", name := "twoHosts", desc := "(II)V" } : Jvm.MethodName)) ∈ lw_all := lw_g (lw_at lw_m7 227 rfl) rfl
theorem q1811 : (Jvm.Cond.privateMethod ({ cls := "VisitingHours", name := "twoHosts", desc := "(II)V" } : Jvm.MethodName)) ∈ lw_tbl := lw_at lw_m7 228 rfl
theorem q1812 : (Jvm.Cond.instanceMethod ({ cls := "VisitingHours", name := "twoHosts", desc := "(II)V" } : Jvm.MethodName)) ∈ lw_all := lw_g (lw_at lw_m7 229 rfl) rfl
theorem q1813 : (Jvm.Cond.code ({ cls := "VisitingHours", name := "twoHosts", desc := "(II)V" } : Jvm.MethodName) prog_1_method_42_code (3 : Nat) (Option.none : Option Jvm.ClassFile.FieldType)) ∈ lw_all := lw_g (lw_at lw_m7 230 rfl) rfl
theorem q1814 : (Jvm.Cond.methodLink "VisitingHours" (498 : Nat) ({ cls := "VisitingHours", name := "demand", desc := "(Z)V" } : Jvm.MethodName)) ∈ lw_all := lw_g (lw_at lw_m7 231 rfl) rfl
theorem q1815 : (Jvm.Cond.static ({ cls := "VisitingHours", name := "demand", desc := "(Z)V" } : Jvm.MethodName)) ∈ lw_all := lw_g (lw_at lw_m7 232 rfl) rfl
theorem q1816 : (Jvm.Cond.code ({ cls := "VisitingHours", name := "demand", desc := "(Z)V" } : Jvm.MethodName) prog_1_method_35_code (1 : Nat) (Option.none : Option Jvm.ClassFile.FieldType)) ∈ lw_all := lw_g (lw_at lw_m7 233 rfl) rfl
theorem q1821 : (Jvm.Cond.instanceMethod ({ cls := "VisitingHours", name := "mark", desc := "(II)I" } : Jvm.MethodName)) ∈ lw_all := lw_g (lw_at lw_m7 238 rfl) rfl
theorem q1822 : (Jvm.Cond.selects "VisitingHours" ({ cls := "VisitingHours", name := "mark", desc := "(II)I" } : Jvm.MethodName) ({ cls := "VisitingHours", name := "mark", desc := "(II)I" } : Jvm.MethodName)) ∈ lw_all := lw_g (lw_at lw_m7 239 rfl) rfl
theorem q1823 : (Jvm.Cond.code ({ cls := "VisitingHours", name := "mark", desc := "(II)I" } : Jvm.MethodName) prog_1_method_58_code (4 : Nat) (Option.some Jvm.ClassFile.FieldType.int)) ∈ lw_all := lw_g (lw_at lw_m8 0 rfl) rfl
theorem q1828 : (Jvm.Cond.instanceMethod ({ cls := "VisitingHours", name := "gate", desc := "(II)I" } : Jvm.MethodName)) ∈ lw_all := lw_g (lw_at lw_m8 5 rfl) rfl
theorem q1829 : (Jvm.Cond.selects "VisitingHours" ({ cls := "VisitingHours", name := "gate", desc := "(II)I" } : Jvm.MethodName) ({ cls := "VisitingHours", name := "gate", desc := "(II)I" } : Jvm.MethodName)) ∈ lw_all := lw_g (lw_at lw_m8 6 rfl) rfl
theorem q1830 : (Jvm.Cond.code ({ cls := "VisitingHours", name := "gate", desc := "(II)I" } : Jvm.MethodName) prog_1_method_59_code (4 : Nat) (Option.some Jvm.ClassFile.FieldType.int)) ∈ lw_all := lw_g (lw_at lw_m8 7 rfl) rfl
theorem q1835 : (Jvm.Cond.instanceMethod ({ cls := "VisitingHours", name := "value", desc := "(IIZI)I" } : Jvm.MethodName)) ∈ lw_all := lw_g (lw_at lw_m8 12 rfl) rfl
theorem q1836 : (Jvm.Cond.selects "VisitingHours" ({ cls := "VisitingHours", name := "value", desc := "(IIZI)I" } : Jvm.MethodName) ({ cls := "VisitingHours", name := "value", desc := "(IIZI)I" } : Jvm.MethodName)) ∈ lw_all := lw_g (lw_at lw_m8 13 rfl) rfl
theorem q1837 : (Jvm.Cond.code ({ cls := "VisitingHours", name := "value", desc := "(IIZI)I" } : Jvm.MethodName) prog_1_method_60_code (6 : Nat) (Option.some Jvm.ClassFile.FieldType.int)) ∈ lw_all := lw_g (lw_at lw_m8 14 rfl) rfl
theorem q1842 : (Jvm.Cond.instanceMethod ({ cls := "VisitingHours", name := "weeks", desc := "(I)I" } : Jvm.MethodName)) ∈ lw_all := lw_g (lw_at lw_m8 19 rfl) rfl
theorem q1843 : (Jvm.Cond.selects "VisitingHours" ({ cls := "VisitingHours", name := "weeks", desc := "(I)I" } : Jvm.MethodName) ({ cls := "VisitingHours", name := "weeks", desc := "(I)I" } : Jvm.MethodName)) ∈ lw_all := lw_g (lw_at lw_m8 20 rfl) rfl
theorem q1844 : (Jvm.Cond.code ({ cls := "VisitingHours", name := "weeks", desc := "(I)I" } : Jvm.MethodName) prog_1_method_61_code (4 : Nat) (Option.some Jvm.ClassFile.FieldType.int)) ∈ lw_all := lw_g (lw_at lw_m8 21 rfl) rfl
theorem q1845 : (Jvm.Cond.methodLink "VisitingHours" (473 : Nat) ({ cls := "VisitingHours", name := "aWeek", desc := "(LVisitingHours$World;ZZ)I" } : Jvm.MethodName)) ∈ lw_all := lw_g (lw_at lw_m8 22 rfl) rfl
theorem q1846 : (Jvm.Cond.privateMethod ({ cls := "VisitingHours", name := "aWeek", desc := "(LVisitingHours$World;ZZ)I" } : Jvm.MethodName)) ∈ lw_tbl := lw_at lw_m8 23 rfl
theorem q1847 : (Jvm.Cond.instanceMethod ({ cls := "VisitingHours", name := "aWeek", desc := "(LVisitingHours$World;ZZ)I" } : Jvm.MethodName)) ∈ lw_all := lw_g (lw_at lw_m8 24 rfl) rfl
theorem q1848 : (Jvm.Cond.code ({ cls := "VisitingHours", name := "aWeek", desc := "(LVisitingHours$World;ZZ)I" } : Jvm.MethodName) prog_1_method_32_code (7 : Nat) (Option.some Jvm.ClassFile.FieldType.int)) ∈ lw_all := lw_g (lw_at lw_m8 25 rfl) rfl
theorem q1849 : (Jvm.Cond.methodLink "VisitingHours" (459 : Nat) ({ cls := "VisitingHours$World", name := "draw", desc := "(I)I" } : Jvm.MethodName)) ∈ lw_all := lw_g (lw_at lw_m8 26 rfl) rfl
theorem q1854 : (Jvm.Cond.methodLink "VisitingHours" (462 : Nat) ({ cls := "VisitingHours", name := "meets", desc := "(LVisitingHours$World;IZ)I" } : Jvm.MethodName)) ∈ lw_all := lw_g (lw_at lw_m8 31 rfl) rfl
theorem q1855 : (Jvm.Cond.privateMethod ({ cls := "VisitingHours", name := "meets", desc := "(LVisitingHours$World;IZ)I" } : Jvm.MethodName)) ∈ lw_tbl := lw_at lw_m8 32 rfl
theorem q1856 : (Jvm.Cond.instanceMethod ({ cls := "VisitingHours", name := "meets", desc := "(LVisitingHours$World;IZ)I" } : Jvm.MethodName)) ∈ lw_all := lw_g (lw_at lw_m8 33 rfl) rfl
theorem q1857 : (Jvm.Cond.code ({ cls := "VisitingHours", name := "meets", desc := "(LVisitingHours$World;IZ)I" } : Jvm.MethodName) prog_1_method_31_code (8 : Nat) (Option.some Jvm.ClassFile.FieldType.int)) ∈ lw_all := lw_g (lw_at lw_m8 34 rfl) rfl
theorem q1858 : (Jvm.Cond.methodLink "VisitingHours" (447 : Nat) ({ cls := "java/lang/Math", name := "min", desc := "(II)I" } : Jvm.MethodName)) ∈ lw_all := lw_g (lw_at lw_m8 35 rfl) rfl
theorem q1859 : (Jvm.Cond.methodLink "VisitingHours" (452 : Nat) ({ cls := "VisitingHours$World", name := "tells", desc := "(IIIII)V" } : Jvm.MethodName)) ∈ lw_all := lw_g (lw_at lw_m8 36 rfl) rfl
theorem q1864 : (Jvm.Cond.methodLink "VisitingHours" (466 : Nat) ({ cls := "VisitingHours$World", name := "settles", desc := "(IZZ)V" } : Jvm.MethodName)) ∈ lw_all := lw_g (lw_at lw_m8 41 rfl) rfl
theorem q1870 : (Jvm.Cond.methodLink "VisitingHours" (470 : Nat) ({ cls := "VisitingHours$World", name := "ends", desc := "()V" } : Jvm.MethodName)) ∈ lw_all := lw_g (lw_at lw_m8 47 rfl) rfl
theorem q1878 : (Jvm.Cond.instanceMethod ({ cls := "VisitingHours", name := "hostBest", desc := "(I)I" } : Jvm.MethodName)) ∈ lw_all := lw_g (lw_at lw_m8 55 rfl) rfl
theorem q1879 : (Jvm.Cond.selects "VisitingHours" ({ cls := "VisitingHours", name := "hostBest", desc := "(I)I" } : Jvm.MethodName) ({ cls := "VisitingHours", name := "hostBest", desc := "(I)I" } : Jvm.MethodName)) ∈ lw_all := lw_g (lw_at lw_m8 56 rfl) rfl
theorem q1880 : (Jvm.Cond.code ({ cls := "VisitingHours", name := "hostBest", desc := "(I)I" } : Jvm.MethodName) prog_1_method_65_code (2 : Nat) (Option.some Jvm.ClassFile.FieldType.int)) ∈ lw_all := lw_g (lw_at lw_m8 57 rfl) rfl
theorem q1881 : (Jvm.Cond.methodLink "VisitingHours" (539 : Nat) ({ cls := "VisitingHours$Pairs", name := "byHosts", desc := "()LVisitingHours$Pairs;" } : Jvm.MethodName)) ∈ lw_all := lw_g (lw_at lw_m8 58 rfl) rfl
theorem q1886 : (Jvm.Cond.instanceMethod ({ cls := "VisitingHours", name := "guestBest", desc := "(I)I" } : Jvm.MethodName)) ∈ lw_all := lw_g (lw_at lw_m8 63 rfl) rfl
theorem q1887 : (Jvm.Cond.selects "VisitingHours" ({ cls := "VisitingHours", name := "guestBest", desc := "(I)I" } : Jvm.MethodName) ({ cls := "VisitingHours", name := "guestBest", desc := "(I)I" } : Jvm.MethodName)) ∈ lw_all := lw_g (lw_at lw_m8 64 rfl) rfl
theorem q1888 : (Jvm.Cond.code ({ cls := "VisitingHours", name := "guestBest", desc := "(I)I" } : Jvm.MethodName) prog_1_method_66_code (2 : Nat) (Option.some Jvm.ClassFile.FieldType.int)) ∈ lw_all := lw_g (lw_at lw_m8 65 rfl) rfl
theorem q1889 : (Jvm.Cond.methodLink "VisitingHours" (546 : Nat) ({ cls := "VisitingHours$Pairs", name := "byGuests", desc := "()LVisitingHours$Pairs;" } : Jvm.MethodName)) ∈ lw_all := lw_g (lw_at lw_m8 66 rfl) rfl
theorem q1894 : (Jvm.Cond.instanceMethod ({ cls := "VisitingHours", name := "rather", desc := "()I" } : Jvm.MethodName)) ∈ lw_all := lw_g (lw_at lw_m8 71 rfl) rfl
theorem q1895 : (Jvm.Cond.selects "VisitingHours" ({ cls := "VisitingHours", name := "rather", desc := "()I" } : Jvm.MethodName) ({ cls := "VisitingHours", name := "rather", desc := "()I" } : Jvm.MethodName)) ∈ lw_all := lw_g (lw_at lw_m8 72 rfl) rfl
theorem q1896 : (Jvm.Cond.code ({ cls := "VisitingHours", name := "rather", desc := "()I" } : Jvm.MethodName) prog_1_method_69_code (4 : Nat) (Option.some Jvm.ClassFile.FieldType.int)) ∈ lw_all := lw_g (lw_at lw_m8 73 rfl) rfl
theorem q1897 : (Jvm.Cond.methodLink "VisitingHours" (565 : Nat) ({ cls := "VisitingHours$Pairs", name := "clears", desc := "()V" } : Jvm.MethodName)) ∈ lw_all := lw_g (lw_at lw_m8 74 rfl) rfl
theorem q1898 : (Jvm.Cond.methodLink "VisitingHours" (568 : Nat) ({ cls := "VisitingHours", name := "isTold", desc := "(II)Z" } : Jvm.MethodName)) ∈ lw_all := lw_g (lw_at lw_m8 75 rfl) rfl
theorem q1899 : (Jvm.Cond.privateMethod ({ cls := "VisitingHours", name := "isTold", desc := "(II)Z" } : Jvm.MethodName)) ∈ lw_tbl := lw_at lw_m8 76 rfl
theorem q1900 : (Jvm.Cond.instanceMethod ({ cls := "VisitingHours", name := "isTold", desc := "(II)Z" } : Jvm.MethodName)) ∈ lw_all := lw_g (lw_at lw_m8 77 rfl) rfl
theorem q1901 : (Jvm.Cond.code ({ cls := "VisitingHours", name := "isTold", desc := "(II)Z" } : Jvm.MethodName) prog_1_method_68_code (3 : Nat) (Option.some Jvm.ClassFile.FieldType.boolean)) ∈ lw_all := lw_g (lw_at lw_m8 78 rfl) rfl
theorem q1902 : (Jvm.Cond.methodLink "VisitingHours" (552 : Nat) ({ cls := "VisitingHours$World", name := "both", desc := "(II)Z" } : Jvm.MethodName)) ∈ lw_all := lw_g (lw_at lw_m8 79 rfl) rfl
theorem q1903 : (Jvm.Cond.methodLink "VisitingHours" (571 : Nat) ({ cls := "VisitingHours$Pairs", name := "rathers", desc := "()I" } : Jvm.MethodName)) ∈ lw_all := lw_g (lw_at lw_m8 80 rfl) rfl
theorem q1908 : (Jvm.Cond.instanceMethod ({ cls := "VisitingHours", name := "row", desc := "(IIZ)I" } : Jvm.MethodName)) ∈ lw_all := lw_g (lw_at lw_m8 85 rfl) rfl
theorem q1909 : (Jvm.Cond.selects "VisitingHours" ({ cls := "VisitingHours", name := "row", desc := "(IIZ)I" } : Jvm.MethodName) ({ cls := "VisitingHours", name := "row", desc := "(IIZ)I" } : Jvm.MethodName)) ∈ lw_all := lw_g (lw_at lw_m8 86 rfl) rfl
theorem q1910 : (Jvm.Cond.code ({ cls := "VisitingHours", name := "row", desc := "(IIZ)I" } : Jvm.MethodName) prog_1_method_73_code (6 : Nat) (Option.some Jvm.ClassFile.FieldType.int)) ∈ lw_all := lw_g (lw_at lw_m8 87 rfl) rfl
theorem q1911 : (Jvm.Cond.methodLink "VisitingHours" (582 : Nat) ({ cls := "VisitingHours", name := "overOf", desc := "(II)I" } : Jvm.MethodName)) ∈ lw_all := lw_g (lw_at lw_m8 88 rfl) rfl
theorem q1912 : (Jvm.Cond.privateMethod ({ cls := "VisitingHours", name := "overOf", desc := "(II)I" } : Jvm.MethodName)) ∈ lw_tbl := lw_at lw_m8 89 rfl
theorem q1913 : (Jvm.Cond.instanceMethod ({ cls := "VisitingHours", name := "overOf", desc := "(II)I" } : Jvm.MethodName)) ∈ lw_all := lw_g (lw_at lw_m8 90 rfl) rfl
theorem q1914 : (Jvm.Cond.code ({ cls := "VisitingHours", name := "overOf", desc := "(II)I" } : Jvm.MethodName) prog_1_method_72_code (5 : Nat) (Option.some Jvm.ClassFile.FieldType.int)) ∈ lw_all := lw_g (lw_at lw_m8 91 rfl) rfl
theorem q1915 : (Jvm.Cond.constant "VisitingHours" (577 : Nat) (1000000 : Int32)) ∈ lw_all := lw_g (lw_at lw_m8 92 rfl) rfl
theorem q1916 : (Jvm.Cond.methodLink "VisitingHours" (578 : Nat) ({ cls := "VisitingHours", name := "overFrom", desc := "(III)I" } : Jvm.MethodName)) ∈ lw_all := lw_g (lw_at lw_m8 93 rfl) rfl
theorem q1917 : (Jvm.Cond.privateMethod ({ cls := "VisitingHours", name := "overFrom", desc := "(III)I" } : Jvm.MethodName)) ∈ lw_tbl := lw_at lw_m8 94 rfl
theorem q1918 : (Jvm.Cond.instanceMethod ({ cls := "VisitingHours", name := "overFrom", desc := "(III)I" } : Jvm.MethodName)) ∈ lw_all := lw_g (lw_at lw_m8 95 rfl) rfl
theorem q1919 : (Jvm.Cond.code ({ cls := "VisitingHours", name := "overFrom", desc := "(III)I" } : Jvm.MethodName) prog_1_method_71_code (5 : Nat) (Option.some Jvm.ClassFile.FieldType.int)) ∈ lw_all := lw_g (lw_at lw_m8 96 rfl) rfl
theorem q1920 : (Jvm.Cond.methodLink "VisitingHours" (574 : Nat) ({ cls := "VisitingHours", name := "canStay", desc := "(III)Z" } : Jvm.MethodName)) ∈ lw_all := lw_g (lw_at lw_m8 97 rfl) rfl
theorem q1921 : (Jvm.Cond.privateMethod ({ cls := "VisitingHours", name := "canStay", desc := "(III)Z" } : Jvm.MethodName)) ∈ lw_tbl := lw_at lw_m8 98 rfl
theorem q1922 : (Jvm.Cond.instanceMethod ({ cls := "VisitingHours", name := "canStay", desc := "(III)Z" } : Jvm.MethodName)) ∈ lw_all := lw_g (lw_at lw_m8 99 rfl) rfl
theorem q1923 : (Jvm.Cond.code ({ cls := "VisitingHours", name := "canStay", desc := "(III)Z" } : Jvm.MethodName) prog_1_method_70_code (5 : Nat) (Option.some Jvm.ClassFile.FieldType.boolean)) ∈ lw_all := lw_g (lw_at lw_m8 100 rfl) rfl
theorem q1928 : (Jvm.Cond.instanceMethod ({ cls := "VisitingHours", name := "afternoon", desc := "(II)I" } : Jvm.MethodName)) ∈ lw_all := lw_g (lw_at lw_m8 105 rfl) rfl
theorem q1929 : (Jvm.Cond.selects "VisitingHours" ({ cls := "VisitingHours", name := "afternoon", desc := "(II)I" } : Jvm.MethodName) ({ cls := "VisitingHours", name := "afternoon", desc := "(II)I" } : Jvm.MethodName)) ∈ lw_all := lw_g (lw_at lw_m8 106 rfl) rfl
theorem q1930 : (Jvm.Cond.code ({ cls := "VisitingHours", name := "afternoon", desc := "(II)I" } : Jvm.MethodName) prog_1_method_77_code (6 : Nat) (Option.some Jvm.ClassFile.FieldType.int)) ∈ lw_all := lw_g (lw_at lw_m8 107 rfl) rfl
theorem q1931 : (Jvm.Cond.methodLink "VisitingHours" (600 : Nat) ({ cls := "VisitingHours", name := "laysAfternoon", desc := "(I)V" } : Jvm.MethodName)) ∈ lw_all := lw_g (lw_at lw_m8 108 rfl) rfl
theorem q1932 : (Jvm.Cond.privateMethod ({ cls := "VisitingHours", name := "laysAfternoon", desc := "(I)V" } : Jvm.MethodName)) ∈ lw_tbl := lw_at lw_m8 109 rfl
theorem q1933 : (Jvm.Cond.instanceMethod ({ cls := "VisitingHours", name := "laysAfternoon", desc := "(I)V" } : Jvm.MethodName)) ∈ lw_all := lw_g (lw_at lw_m8 110 rfl) rfl
theorem q1934 : (Jvm.Cond.code ({ cls := "VisitingHours", name := "laysAfternoon", desc := "(I)V" } : Jvm.MethodName) prog_1_method_76_code (6 : Nat) (Option.none : Option Jvm.ClassFile.FieldType)) ∈ lw_all := lw_g (lw_at lw_m8 111 rfl) rfl
theorem q1935 : (Jvm.Cond.methodLink "VisitingHours" (593 : Nat) ({ cls := "VisitingHours", name := "afternoonBy", desc := "(IIII)I" } : Jvm.MethodName)) ∈ lw_all := lw_g (lw_at lw_m8 112 rfl) rfl
theorem q1936 : (Jvm.Cond.privateMethod ({ cls := "VisitingHours", name := "afternoonBy", desc := "(IIII)I" } : Jvm.MethodName)) ∈ lw_tbl := lw_at lw_m8 113 rfl
theorem q1937 : (Jvm.Cond.instanceMethod ({ cls := "VisitingHours", name := "afternoonBy", desc := "(IIII)I" } : Jvm.MethodName)) ∈ lw_all := lw_g (lw_at lw_m8 114 rfl) rfl
theorem q1938 : (Jvm.Cond.code ({ cls := "VisitingHours", name := "afternoonBy", desc := "(IIII)I" } : Jvm.MethodName) prog_1_method_75_code (5 : Nat) (Option.some Jvm.ClassFile.FieldType.int)) ∈ lw_all := lw_g (lw_at lw_m8 115 rfl) rfl
theorem q1939 : (Jvm.Cond.methodLink "VisitingHours" (590 : Nat) ({ cls := "VisitingHours", name := "mostAt", desc := "(II)I" } : Jvm.MethodName)) ∈ lw_all := lw_g (lw_at lw_m8 116 rfl) rfl
theorem q1940 : (Jvm.Cond.static ({ cls := "VisitingHours", name := "mostAt", desc := "(II)I" } : Jvm.MethodName)) ∈ lw_all := lw_g (lw_at lw_m8 117 rfl) rfl
theorem q1941 : (Jvm.Cond.code ({ cls := "VisitingHours", name := "mostAt", desc := "(II)I" } : Jvm.MethodName) prog_1_method_74_code (2 : Nat) (Option.some Jvm.ClassFile.FieldType.int)) ∈ lw_all := lw_g (lw_at lw_m8 118 rfl) rfl
theorem q1942 : (Jvm.Cond.methodLink "VisitingHours" (597 : Nat) ({ cls := "java/lang/Math", name := "max", desc := "(II)I" } : Jvm.MethodName)) ∈ lw_all := lw_g (lw_at lw_m8 119 rfl) rfl
theorem q1947 : (Jvm.Cond.instanceMethod ({ cls := "VisitingHours", name := "rules", desc := "(Z)I" } : Jvm.MethodName)) ∈ lw_all := lw_g (lw_at lw_m8 124 rfl) rfl
theorem q1948 : (Jvm.Cond.selects "VisitingHours" ({ cls := "VisitingHours", name := "rules", desc := "(Z)I" } : Jvm.MethodName) ({ cls := "VisitingHours", name := "rules", desc := "(Z)I" } : Jvm.MethodName)) ∈ lw_all := lw_g (lw_at lw_m8 125 rfl) rfl
theorem q1949 : (Jvm.Cond.code ({ cls := "VisitingHours", name := "rules", desc := "(Z)I" } : Jvm.MethodName) prog_1_method_82_code (5 : Nat) (Option.some Jvm.ClassFile.FieldType.int)) ∈ lw_all := lw_g (lw_at lw_m8 126 rfl) rfl
theorem q1950 : (Jvm.Cond.methodLink "VisitingHours" (605 : Nat) ({ cls := "VisitingHours", name := "gateTold", desc := "()V" } : Jvm.MethodName)) ∈ lw_all := lw_g (lw_at lw_m8 127 rfl) rfl
theorem q1951 : (Jvm.Cond.privateMethod ({ cls := "VisitingHours", name := "gateTold", desc := "()V" } : Jvm.MethodName)) ∈ lw_tbl := lw_at lw_m8 128 rfl
theorem q1952 : (Jvm.Cond.instanceMethod ({ cls := "VisitingHours", name := "gateTold", desc := "()V" } : Jvm.MethodName)) ∈ lw_all := lw_g (lw_at lw_m8 129 rfl) rfl
theorem q1953 : (Jvm.Cond.code ({ cls := "VisitingHours", name := "gateTold", desc := "()V" } : Jvm.MethodName) prog_1_method_78_code (3 : Nat) (Option.none : Option Jvm.ClassFile.FieldType)) ∈ lw_all := lw_g (lw_at lw_m8 130 rfl) rfl
theorem q1954 : (Jvm.Cond.methodLink "VisitingHours" (608 : Nat) ({ cls := "VisitingHours", name := "laysRules", desc := "()V" } : Jvm.MethodName)) ∈ lw_all := lw_g (lw_at lw_m8 131 rfl) rfl
theorem q1955 : (Jvm.Cond.privateMethod ({ cls := "VisitingHours", name := "laysRules", desc := "()V" } : Jvm.MethodName)) ∈ lw_tbl := lw_at lw_m8 132 rfl
theorem q1956 : (Jvm.Cond.instanceMethod ({ cls := "VisitingHours", name := "laysRules", desc := "()V" } : Jvm.MethodName)) ∈ lw_all := lw_g (lw_at lw_m8 133 rfl) rfl
theorem q1957 : (Jvm.Cond.code ({ cls := "VisitingHours", name := "laysRules", desc := "()V" } : Jvm.MethodName) prog_1_method_79_code (4 : Nat) (Option.none : Option Jvm.ClassFile.FieldType)) ∈ lw_all := lw_g (lw_at lw_m8 134 rfl) rfl
theorem q1958 : (Jvm.Cond.methodLink "VisitingHours" (611 : Nat) ({ cls := "VisitingHours", name := "fits", desc := "(I)Z" } : Jvm.MethodName)) ∈ lw_all := lw_g (lw_at lw_m8 135 rfl) rfl
theorem q1959 : (Jvm.Cond.privateMethod ({ cls := "VisitingHours", name := "fits", desc := "(I)Z" } : Jvm.MethodName)) ∈ lw_tbl := lw_at lw_m8 136 rfl
theorem q1960 : (Jvm.Cond.instanceMethod ({ cls := "VisitingHours", name := "fits", desc := "(I)Z" } : Jvm.MethodName)) ∈ lw_all := lw_g (lw_at lw_m8 137 rfl) rfl
theorem q1961 : (Jvm.Cond.code ({ cls := "VisitingHours", name := "fits", desc := "(I)Z" } : Jvm.MethodName) prog_1_method_81_code (4 : Nat) (Option.some Jvm.ClassFile.FieldType.boolean)) ∈ lw_all := lw_g (lw_at lw_m8 138 rfl) rfl
theorem q1962 : (Jvm.Cond.methodLink "VisitingHours" (603 : Nat) ({ cls := "VisitingHours", name := "passes", desc := "(II)Z" } : Jvm.MethodName)) ∈ lw_all := lw_g (lw_at lw_m8 139 rfl) rfl
theorem q1963 : (Jvm.Cond.privateMethod ({ cls := "VisitingHours", name := "passes", desc := "(II)Z" } : Jvm.MethodName)) ∈ lw_tbl := lw_at lw_m8 140 rfl
theorem q1964 : (Jvm.Cond.instanceMethod ({ cls := "VisitingHours", name := "passes", desc := "(II)Z" } : Jvm.MethodName)) ∈ lw_all := lw_g (lw_at lw_m8 141 rfl) rfl
theorem q1965 : (Jvm.Cond.code ({ cls := "VisitingHours", name := "passes", desc := "(II)Z" } : Jvm.MethodName) prog_1_method_80_code (3 : Nat) (Option.some Jvm.ClassFile.FieldType.boolean)) ∈ lw_all := lw_g (lw_at lw_m8 142 rfl) rfl
theorem q1970 : (Jvm.Cond.instanceMethod ({ cls := "VisitingHours", name := "send", desc := "()I" } : Jvm.MethodName)) ∈ lw_all := lw_g (lw_at lw_m8 147 rfl) rfl
theorem q1971 : (Jvm.Cond.selects "VisitingHours" ({ cls := "VisitingHours", name := "send", desc := "()I" } : Jvm.MethodName) ({ cls := "VisitingHours", name := "send", desc := "()I" } : Jvm.MethodName)) ∈ lw_all := lw_g (lw_at lw_m8 148 rfl) rfl
theorem q1972 : (Jvm.Cond.code ({ cls := "VisitingHours", name := "send", desc := "()I" } : Jvm.MethodName) prog_1_method_83_code (7 : Nat) (Option.some Jvm.ClassFile.FieldType.int)) ∈ lw_all := lw_g (lw_at lw_m8 149 rfl) rfl
theorem q1977 : (Jvm.Cond.instanceMethod ({ cls := "VisitingHours", name := "hand", desc := "(Z)I" } : Jvm.MethodName)) ∈ lw_all := lw_g (lw_at lw_m8 154 rfl) rfl
theorem q1978 : (Jvm.Cond.selects "VisitingHours" ({ cls := "VisitingHours", name := "hand", desc := "(Z)I" } : Jvm.MethodName) ({ cls := "VisitingHours", name := "hand", desc := "(Z)I" } : Jvm.MethodName)) ∈ lw_all := lw_g (lw_at lw_m8 155 rfl) rfl
theorem q1979 : (Jvm.Cond.code ({ cls := "VisitingHours", name := "hand", desc := "(Z)I" } : Jvm.MethodName) prog_1_method_85_code (6 : Nat) (Option.some Jvm.ClassFile.FieldType.int)) ∈ lw_all := lw_g (lw_at lw_m8 156 rfl) rfl
theorem q1980 : (Jvm.Cond.methodLink "VisitingHours" (614 : Nat) ({ cls := "VisitingHours", name := "wrongOrders", desc := "(I)I" } : Jvm.MethodName)) ∈ lw_all := lw_g (lw_at lw_m8 157 rfl) rfl
theorem q1981 : (Jvm.Cond.privateMethod ({ cls := "VisitingHours", name := "wrongOrders", desc := "(I)I" } : Jvm.MethodName)) ∈ lw_tbl := lw_at lw_m8 158 rfl
theorem q1982 : (Jvm.Cond.instanceMethod ({ cls := "VisitingHours", name := "wrongOrders", desc := "(I)I" } : Jvm.MethodName)) ∈ lw_all := lw_g (lw_at lw_m8 159 rfl) rfl
theorem q1983 : (Jvm.Cond.code ({ cls := "VisitingHours", name := "wrongOrders", desc := "(I)I" } : Jvm.MethodName) prog_1_method_84_code (6 : Nat) (Option.some Jvm.ClassFile.FieldType.int)) ∈ lw_all := lw_g (lw_at lw_m8 160 rfl) rfl
theorem q1988 : (Jvm.Cond.instanceMethod ({ cls := "VisitingHours", name := "saved", desc := "(II)I" } : Jvm.MethodName)) ∈ lw_all := lw_g (lw_at lw_m8 165 rfl) rfl
theorem q1989 : (Jvm.Cond.selects "VisitingHours" ({ cls := "VisitingHours", name := "saved", desc := "(II)I" } : Jvm.MethodName) ({ cls := "VisitingHours", name := "saved", desc := "(II)I" } : Jvm.MethodName)) ∈ lw_all := lw_g (lw_at lw_m8 166 rfl) rfl
theorem q1990 : (Jvm.Cond.code ({ cls := "VisitingHours", name := "saved", desc := "(II)I" } : Jvm.MethodName) prog_1_method_90_code (3 : Nat) (Option.some Jvm.ClassFile.FieldType.int)) ∈ lw_all := lw_g (lw_at lw_m8 167 rfl) rfl
theorem q1991 : (Jvm.Cond.methodLink "VisitingHours" (623 : Nat) ({ cls := "VisitingHours", name := "savedFrom", desc := "(IIII)I" } : Jvm.MethodName)) ∈ lw_all := lw_g (lw_at lw_m8 168 rfl) rfl
theorem q1992 : (Jvm.Cond.privateMethod ({ cls := "VisitingHours", name := "savedFrom", desc := "(IIII)I" } : Jvm.MethodName)) ∈ lw_tbl := lw_at lw_m8 169 rfl
theorem q1993 : (Jvm.Cond.instanceMethod ({ cls := "VisitingHours", name := "savedFrom", desc := "(IIII)I" } : Jvm.MethodName)) ∈ lw_all := lw_g (lw_at lw_m8 170 rfl) rfl
theorem q1994 : (Jvm.Cond.code ({ cls := "VisitingHours", name := "savedFrom", desc := "(IIII)I" } : Jvm.MethodName) prog_1_method_89_code (9 : Nat) (Option.some Jvm.ClassFile.FieldType.int)) ∈ lw_all := lw_g (lw_at lw_m8 171 rfl) rfl
theorem q1999 : (Jvm.Cond.instanceMethod ({ cls := "VisitingHours", name := "lend", desc := "(I)I" } : Jvm.MethodName)) ∈ lw_all := lw_g (lw_at lw_m8 176 rfl) rfl
theorem q2000 : (Jvm.Cond.selects "VisitingHours" ({ cls := "VisitingHours", name := "lend", desc := "(I)I" } : Jvm.MethodName) ({ cls := "VisitingHours", name := "lend", desc := "(I)I" } : Jvm.MethodName)) ∈ lw_all := lw_g (lw_at lw_m8 177 rfl) rfl
theorem q2001 : (Jvm.Cond.code ({ cls := "VisitingHours", name := "lend", desc := "(I)I" } : Jvm.MethodName) prog_1_method_97_code (5 : Nat) (Option.some Jvm.ClassFile.FieldType.int)) ∈ lw_all := lw_g (lw_at lw_m8 178 rfl) rfl
theorem q2002 : (Jvm.Cond.methodLink "VisitingHours" (642 : Nat) ({ cls := "VisitingHours", name := "laysLent", desc := "()V" } : Jvm.MethodName)) ∈ lw_all := lw_g (lw_at lw_m8 179 rfl) rfl
theorem q2003 : (Jvm.Cond.privateMethod ({ cls := "VisitingHours", name := "laysLent", desc := "()V" } : Jvm.MethodName)) ∈ lw_tbl := lw_at lw_m8 180 rfl
theorem q2004 : (Jvm.Cond.instanceMethod ({ cls := "VisitingHours", name := "laysLent", desc := "()V" } : Jvm.MethodName)) ∈ lw_all := lw_g (lw_at lw_m8 181 rfl) rfl
theorem q2005 : (Jvm.Cond.code ({ cls := "VisitingHours", name := "laysLent", desc := "()V" } : Jvm.MethodName) prog_1_method_96_code (5 : Nat) (Option.none : Option Jvm.ClassFile.FieldType)) ∈ lw_all := lw_g (lw_at lw_m8 182 rfl) rfl
theorem q2006 : (Jvm.Cond.methodLink "VisitingHours" (639 : Nat) ({ cls := "VisitingHours", name := "lentBy", desc := "(III)I" } : Jvm.MethodName)) ∈ lw_all := lw_g (lw_at lw_m8 183 rfl) rfl
theorem q2007 : (Jvm.Cond.privateMethod ({ cls := "VisitingHours", name := "lentBy", desc := "(III)I" } : Jvm.MethodName)) ∈ lw_tbl := lw_at lw_m8 184 rfl
theorem q2008 : (Jvm.Cond.instanceMethod ({ cls := "VisitingHours", name := "lentBy", desc := "(III)I" } : Jvm.MethodName)) ∈ lw_all := lw_g (lw_at lw_m8 185 rfl) rfl
theorem q2009 : (Jvm.Cond.code ({ cls := "VisitingHours", name := "lentBy", desc := "(III)I" } : Jvm.MethodName) prog_1_method_95_code (4 : Nat) (Option.some Jvm.ClassFile.FieldType.int)) ∈ lw_all := lw_g (lw_at lw_m8 186 rfl) rfl
theorem q2010 : (Jvm.Cond.methodLink "VisitingHours" (636 : Nat) ({ cls := "VisitingHours", name := "lentAt", desc := "(II)I" } : Jvm.MethodName)) ∈ lw_all := lw_g (lw_at lw_m8 187 rfl) rfl
theorem q2011 : (Jvm.Cond.static ({ cls := "VisitingHours", name := "lentAt", desc := "(II)I" } : Jvm.MethodName)) ∈ lw_all := lw_g (lw_at lw_m8 188 rfl) rfl
theorem q2012 : (Jvm.Cond.code ({ cls := "VisitingHours", name := "lentAt", desc := "(II)I" } : Jvm.MethodName) prog_1_method_94_code (2 : Nat) (Option.some Jvm.ClassFile.FieldType.int)) ∈ lw_all := lw_g (lw_at lw_m8 189 rfl) rfl
theorem q2017 : (Jvm.Cond.instanceMethod ({ cls := "VisitingHours", name := "odds", desc := "(II)I" } : Jvm.MethodName)) ∈ lw_all := lw_g (lw_at lw_m8 194 rfl) rfl
theorem q2018 : (Jvm.Cond.selects "VisitingHours" ({ cls := "VisitingHours", name := "odds", desc := "(II)I" } : Jvm.MethodName) ({ cls := "VisitingHours", name := "odds", desc := "(II)I" } : Jvm.MethodName)) ∈ lw_all := lw_g (lw_at lw_m8 195 rfl) rfl
theorem q2019 : (Jvm.Cond.code ({ cls := "VisitingHours", name := "odds", desc := "(II)I" } : Jvm.MethodName) prog_1_method_91_code (11 : Nat) (Option.some Jvm.ClassFile.FieldType.int)) ∈ lw_all := lw_g (lw_at lw_m8 196 rfl) rfl
theorem q2020 : (Jvm.Cond.constantLong "VisitingHours" (626 : Nat) (100 : Int64)) ∈ lw_all := lw_g (lw_at lw_m8 197 rfl) rfl
theorem q2021 : (Jvm.Cond.constantLong "VisitingHours" (628 : Nat) (10000 : Int64)) ∈ lw_all := lw_g (lw_at lw_m8 198 rfl) rfl
theorem q2026 : (Jvm.Cond.instanceMethod ({ cls := "VisitingHours", name := "waits", desc := "(II)I" } : Jvm.MethodName)) ∈ lw_all := lw_g (lw_at lw_m8 203 rfl) rfl
theorem q2027 : (Jvm.Cond.selects "VisitingHours" ({ cls := "VisitingHours", name := "waits", desc := "(II)I" } : Jvm.MethodName) ({ cls := "VisitingHours", name := "waits", desc := "(II)I" } : Jvm.MethodName)) ∈ lw_all := lw_g (lw_at lw_m8 204 rfl) rfl
theorem q2028 : (Jvm.Cond.code ({ cls := "VisitingHours", name := "waits", desc := "(II)I" } : Jvm.MethodName) prog_1_method_92_code (8 : Nat) (Option.some Jvm.ClassFile.FieldType.int)) ∈ lw_all := lw_g (lw_at lw_m8 205 rfl) rfl
theorem q2029 : (Jvm.Cond.methodLink "VisitingHours" (630 : Nat) ({ cls := "VisitingHours", name := "tenThousandths", desc := "(JJ)I" } : Jvm.MethodName)) ∈ lw_all := lw_g (lw_at lw_m8 206 rfl) rfl
theorem q2030 : (Jvm.Cond.static ({ cls := "VisitingHours", name := "tenThousandths", desc := "(JJ)I" } : Jvm.MethodName)) ∈ lw_all := lw_g (lw_at lw_m8 207 rfl) rfl
theorem q2031 : (Jvm.Cond.code ({ cls := "VisitingHours", name := "tenThousandths", desc := "(JJ)I" } : Jvm.MethodName) prog_1_method_93_code (9 : Nat) (Option.some Jvm.ClassFile.FieldType.int)) ∈ lw_all := lw_g (lw_at lw_m8 208 rfl) rfl
theorem q2032 : (Jvm.Cond.constantLong "VisitingHours" (634 : Nat) (10 : Int64)) ∈ lw_all := lw_g (lw_at lw_m8 209 rfl) rfl
theorem q2037 : (Jvm.Cond.instanceMethod ({ cls := "VisitingHours", name := "treaty", desc := "(II)I" } : Jvm.MethodName)) ∈ lw_all := lw_g (lw_at lw_m8 214 rfl) rfl
theorem q2038 : (Jvm.Cond.selects "VisitingHours" ({ cls := "VisitingHours", name := "treaty", desc := "(II)I" } : Jvm.MethodName) ({ cls := "VisitingHours", name := "treaty", desc := "(II)I" } : Jvm.MethodName)) ∈ lw_all := lw_g (lw_at lw_m8 215 rfl) rfl
theorem q2039 : (Jvm.Cond.code ({ cls := "VisitingHours", name := "treaty", desc := "(II)I" } : Jvm.MethodName) prog_1_method_99_code (8 : Nat) (Option.some Jvm.ClassFile.FieldType.int)) ∈ lw_all := lw_g (lw_at lw_m8 216 rfl) rfl
theorem q2040 : (Jvm.Cond.methodLink "VisitingHours" (645 : Nat) ({ cls := "VisitingHours", name := "hasBy", desc := "(II)I" } : Jvm.MethodName)) ∈ lw_all := lw_g (lw_at lw_m8 217 rfl) rfl
theorem q2041 : (Jvm.Cond.privateMethod ({ cls := "VisitingHours", name := "hasBy", desc := "(II)I" } : Jvm.MethodName)) ∈ lw_tbl := lw_at lw_m8 218 rfl
theorem q2042 : (Jvm.Cond.instanceMethod ({ cls := "VisitingHours", name := "hasBy", desc := "(II)I" } : Jvm.MethodName)) ∈ lw_all := lw_g (lw_at lw_m8 219 rfl) rfl
theorem q2043 : (Jvm.Cond.code ({ cls := "VisitingHours", name := "hasBy", desc := "(II)I" } : Jvm.MethodName) prog_1_method_98_code (3 : Nat) (Option.some Jvm.ClassFile.FieldType.int)) ∈ lw_all := lw_g (lw_at lw_m8 220 rfl) rfl
theorem q2048 : (Jvm.Cond.instanceMethod ({ cls := "VisitingHours", name := "rests", desc := "(II)I" } : Jvm.MethodName)) ∈ lw_all := lw_g (lw_at lw_m8 225 rfl) rfl
theorem q2049 : (Jvm.Cond.selects "VisitingHours" ({ cls := "VisitingHours", name := "rests", desc := "(II)I" } : Jvm.MethodName) ({ cls := "VisitingHours", name := "rests", desc := "(II)I" } : Jvm.MethodName)) ∈ lw_all := lw_g (lw_at lw_m8 226 rfl) rfl
theorem q2050 : (Jvm.Cond.code ({ cls := "VisitingHours", name := "rests", desc := "(II)I" } : Jvm.MethodName) prog_1_method_102_code (6 : Nat) (Option.some Jvm.ClassFile.FieldType.int)) ∈ lw_all := lw_g (lw_at lw_m8 227 rfl) rfl
theorem q2051 : (Jvm.Cond.methodLink "VisitingHours" (648 : Nat) ({ cls := "VisitingHours", name := "gateHas", desc := "(II)I" } : Jvm.MethodName)) ∈ lw_all := lw_g (lw_at lw_m8 228 rfl) rfl
theorem q2052 : (Jvm.Cond.static ({ cls := "VisitingHours", name := "gateHas", desc := "(II)I" } : Jvm.MethodName)) ∈ lw_all := lw_g (lw_at lw_m8 229 rfl) rfl
theorem q2053 : (Jvm.Cond.code ({ cls := "VisitingHours", name := "gateHas", desc := "(II)I" } : Jvm.MethodName) prog_1_method_101_code (2 : Nat) (Option.some Jvm.ClassFile.FieldType.int)) ∈ lw_all := lw_g (lw_at lw_m8 230 rfl) rfl
theorem q2054 : (Jvm.Cond.methodLink "VisitingHours" (651 : Nat) ({ cls := "VisitingHours", name := "guestHas", desc := "(IIII)I" } : Jvm.MethodName)) ∈ lw_all := lw_g (lw_at lw_m8 231 rfl) rfl
theorem q2055 : (Jvm.Cond.privateMethod ({ cls := "VisitingHours", name := "guestHas", desc := "(IIII)I" } : Jvm.MethodName)) ∈ lw_tbl := lw_at lw_m8 232 rfl
theorem q2056 : (Jvm.Cond.instanceMethod ({ cls := "VisitingHours", name := "guestHas", desc := "(IIII)I" } : Jvm.MethodName)) ∈ lw_all := lw_g (lw_at lw_m8 233 rfl) rfl
theorem q2057 : (Jvm.Cond.code ({ cls := "VisitingHours", name := "guestHas", desc := "(IIII)I" } : Jvm.MethodName) prog_1_method_100_code (5 : Nat) (Option.some Jvm.ClassFile.FieldType.int)) ∈ lw_all := lw_g (lw_at lw_m8 234 rfl) rfl
theorem q2062 : (Jvm.Cond.instanceMethod ({ cls := "VisitingHours", name := "settle", desc := "(I)I" } : Jvm.MethodName)) ∈ lw_all := lw_g (lw_at lw_m8 239 rfl) rfl
theorem q2063 : (Jvm.Cond.selects "VisitingHours" ({ cls := "VisitingHours", name := "settle", desc := "(I)I" } : Jvm.MethodName) ({ cls := "VisitingHours", name := "settle", desc := "(I)I" } : Jvm.MethodName)) ∈ lw_all := lw_g (lw_at lw_m9 0 rfl) rfl
theorem q2064 : (Jvm.Cond.code ({ cls := "VisitingHours", name := "settle", desc := "(I)I" } : Jvm.MethodName) prog_1_method_108_code (3 : Nat) (Option.some Jvm.ClassFile.FieldType.int)) ∈ lw_all := lw_g (lw_at lw_m9 1 rfl) rfl
theorem q2065 : (Jvm.Cond.methodLink "VisitingHours" (659 : Nat) ({ cls := "VisitingHours", name := "worldAt", desc := "(I)LVisitingHours$World;" } : Jvm.MethodName)) ∈ lw_all := lw_g (lw_at lw_m9 2 rfl) rfl
theorem q2066 : (Jvm.Cond.privateMethod ({ cls := "VisitingHours", name := "worldAt", desc := "(I)LVisitingHours$World;" } : Jvm.MethodName)) ∈ lw_tbl := lw_at lw_m9 3 rfl
theorem q2067 : (Jvm.Cond.instanceMethod ({ cls := "VisitingHours", name := "worldAt", desc := "(I)LVisitingHours$World;" } : Jvm.MethodName)) ∈ lw_all := lw_g (lw_at lw_m9 4 rfl) rfl
theorem q2068 : (Jvm.Cond.code ({ cls := "VisitingHours", name := "worldAt", desc := "(I)LVisitingHours$World;" } : Jvm.MethodName) prog_1_method_33_code (3 : Nat) (Option.some (Jvm.ClassFile.FieldType.object "VisitingHours$World"))) ∈ lw_all := lw_g (lw_at lw_m9 5 rfl) rfl
theorem q2073 : (Jvm.Cond.instanceMethod ({ cls := "VisitingHours", name := "gladder", desc := "(I)I" } : Jvm.MethodName)) ∈ lw_all := lw_g (lw_at lw_m9 10 rfl) rfl
theorem q2074 : (Jvm.Cond.selects "VisitingHours" ({ cls := "VisitingHours", name := "gladder", desc := "(I)I" } : Jvm.MethodName) ({ cls := "VisitingHours", name := "gladder", desc := "(I)I" } : Jvm.MethodName)) ∈ lw_all := lw_g (lw_at lw_m9 11 rfl) rfl
theorem q2075 : (Jvm.Cond.code ({ cls := "VisitingHours", name := "gladder", desc := "(I)I" } : Jvm.MethodName) prog_1_method_109_code (2 : Nat) (Option.some Jvm.ClassFile.FieldType.int)) ∈ lw_all := lw_g (lw_at lw_m9 12 rfl) rfl
theorem q2076 : (Jvm.Cond.methodLink "VisitingHours" (666 : Nat) ({ cls := "VisitingHours", name := "aheadBy", desc := "(I)V" } : Jvm.MethodName)) ∈ lw_all := lw_g (lw_at lw_m9 13 rfl) rfl
theorem q2077 : (Jvm.Cond.static ({ cls := "VisitingHours", name := "aheadBy", desc := "(I)V" } : Jvm.MethodName)) ∈ lw_all := lw_g (lw_at lw_m9 14 rfl) rfl
theorem q2078 : (Jvm.Cond.code ({ cls := "VisitingHours", name := "aheadBy", desc := "(I)V" } : Jvm.MethodName) prog_1_method_43_code (1 : Nat) (Option.none : Option Jvm.ClassFile.FieldType)) ∈ lw_all := lw_g (lw_at lw_m9 15 rfl) rfl
theorem q2083 : (Jvm.Cond.instanceMethod ({ cls := "VisitingHours", name := "ahead", desc := "(III)I" } : Jvm.MethodName)) ∈ lw_all := lw_g (lw_at lw_m9 20 rfl) rfl
theorem q2084 : (Jvm.Cond.selects "VisitingHours" ({ cls := "VisitingHours", name := "ahead", desc := "(III)I" } : Jvm.MethodName) ({ cls := "VisitingHours", name := "ahead", desc := "(III)I" } : Jvm.MethodName)) ∈ lw_all := lw_g (lw_at lw_m9 21 rfl) rfl
theorem q2085 : (Jvm.Cond.code ({ cls := "VisitingHours", name := "ahead", desc := "(III)I" } : Jvm.MethodName) prog_1_method_110_code (5 : Nat) (Option.some Jvm.ClassFile.FieldType.int)) ∈ lw_all := lw_g (lw_at lw_m9 22 rfl) rfl
theorem q2090 : (Jvm.Cond.instanceMethod ({ cls := "VisitingHours", name := "trial", desc := "(IZ)I" } : Jvm.MethodName)) ∈ lw_all := lw_g (lw_at lw_m9 27 rfl) rfl
theorem q2091 : (Jvm.Cond.selects "VisitingHours" ({ cls := "VisitingHours", name := "trial", desc := "(IZ)I" } : Jvm.MethodName) ({ cls := "VisitingHours", name := "trial", desc := "(IZ)I" } : Jvm.MethodName)) ∈ lw_all := lw_g (lw_at lw_m9 28 rfl) rfl
theorem q2092 : (Jvm.Cond.code ({ cls := "VisitingHours", name := "trial", desc := "(IZ)I" } : Jvm.MethodName) prog_1_method_112_code (3 : Nat) (Option.some Jvm.ClassFile.FieldType.int)) ∈ lw_all := lw_g (lw_at lw_m9 29 rfl) rfl
theorem q2093 : (Jvm.Cond.methodLink "VisitingHours" (669 : Nat) ({ cls := "VisitingHours", name := "tries", desc := "(I)V" } : Jvm.MethodName)) ∈ lw_all := lw_g (lw_at lw_m9 30 rfl) rfl
theorem q2094 : (Jvm.Cond.privateMethod ({ cls := "VisitingHours", name := "tries", desc := "(I)V" } : Jvm.MethodName)) ∈ lw_tbl := lw_at lw_m9 31 rfl
theorem q2095 : (Jvm.Cond.instanceMethod ({ cls := "VisitingHours", name := "tries", desc := "(I)V" } : Jvm.MethodName)) ∈ lw_all := lw_g (lw_at lw_m9 32 rfl) rfl
theorem q2096 : (Jvm.Cond.code ({ cls := "VisitingHours", name := "tries", desc := "(I)V" } : Jvm.MethodName) prog_1_method_111_code (3 : Nat) (Option.none : Option Jvm.ClassFile.FieldType)) ∈ lw_all := lw_g (lw_at lw_m9 33 rfl) rfl
theorem q2101 : (Jvm.Cond.instanceMethod ({ cls := "VisitingHours", name := "span", desc := "(IZ)I" } : Jvm.MethodName)) ∈ lw_all := lw_g (lw_at lw_m9 38 rfl) rfl
theorem q2102 : (Jvm.Cond.selects "VisitingHours" ({ cls := "VisitingHours", name := "span", desc := "(IZ)I" } : Jvm.MethodName) ({ cls := "VisitingHours", name := "span", desc := "(IZ)I" } : Jvm.MethodName)) ∈ lw_all := lw_g (lw_at lw_m9 39 rfl) rfl
theorem q2103 : (Jvm.Cond.code ({ cls := "VisitingHours", name := "span", desc := "(IZ)I" } : Jvm.MethodName) prog_1_method_113_code (6 : Nat) (Option.some Jvm.ClassFile.FieldType.int)) ∈ lw_all := lw_g (lw_at lw_m9 40 rfl) rfl
theorem q2108 : (Jvm.Cond.instanceMethod ({ cls := "VisitingHours", name := "led", desc := "(IZ)I" } : Jvm.MethodName)) ∈ lw_all := lw_g (lw_at lw_m9 45 rfl) rfl
theorem q2109 : (Jvm.Cond.selects "VisitingHours" ({ cls := "VisitingHours", name := "led", desc := "(IZ)I" } : Jvm.MethodName) ({ cls := "VisitingHours", name := "led", desc := "(IZ)I" } : Jvm.MethodName)) ∈ lw_all := lw_g (lw_at lw_m9 46 rfl) rfl
theorem q2110 : (Jvm.Cond.code ({ cls := "VisitingHours", name := "led", desc := "(IZ)I" } : Jvm.MethodName) prog_1_method_115_code (6 : Nat) (Option.some Jvm.ClassFile.FieldType.int)) ∈ lw_all := lw_g (lw_at lw_m9 47 rfl) rfl
theorem q2111 : (Jvm.Cond.methodLink "VisitingHours" (681 : Nat) ({ cls := "VisitingHours", name := "ofLog", desc := "(II)I" } : Jvm.MethodName)) ∈ lw_all := lw_g (lw_at lw_m9 48 rfl) rfl
theorem q2112 : (Jvm.Cond.privateMethod ({ cls := "VisitingHours", name := "ofLog", desc := "(II)I" } : Jvm.MethodName)) ∈ lw_tbl := lw_at lw_m9 49 rfl
theorem q2113 : (Jvm.Cond.instanceMethod ({ cls := "VisitingHours", name := "ofLog", desc := "(II)I" } : Jvm.MethodName)) ∈ lw_all := lw_g (lw_at lw_m9 50 rfl) rfl
theorem q2114 : (Jvm.Cond.code ({ cls := "VisitingHours", name := "ofLog", desc := "(II)I" } : Jvm.MethodName) prog_1_method_114_code (3 : Nat) (Option.some Jvm.ClassFile.FieldType.int)) ∈ lw_all := lw_g (lw_at lw_m9 51 rfl) rfl
theorem q2119 : (Jvm.Cond.instanceMethod ({ cls := "VisitingHours", name := "log", desc := "(II)I" } : Jvm.MethodName)) ∈ lw_all := lw_g (lw_at lw_m9 56 rfl) rfl
theorem q2120 : (Jvm.Cond.selects "VisitingHours" ({ cls := "VisitingHours", name := "log", desc := "(II)I" } : Jvm.MethodName) ({ cls := "VisitingHours", name := "log", desc := "(II)I" } : Jvm.MethodName)) ∈ lw_all := lw_g (lw_at lw_m9 57 rfl) rfl
theorem q2121 : (Jvm.Cond.code ({ cls := "VisitingHours", name := "log", desc := "(II)I" } : Jvm.MethodName) prog_1_method_116_code (3 : Nat) (Option.some Jvm.ClassFile.FieldType.int)) ∈ lw_all := lw_g (lw_at lw_m9 58 rfl) rfl
theorem q2802 : (Jvm.Cond.castable "VisitingHours" "java/lang/Object") ∈ lw_tbl := lw_at lw_m12 19 rfl
theorem in_X1 : ∀ w ∈ wsX10, w ∈ lw_all := lw_in wsX10 [449, 451, 453, 455, 457, 459, 461, 463, 465, 467, 469, 471, 473, 475, 477, 479] (by decide +kernel) (by decide +kernel)
/-! VisitingHours$World -/
set_option maxRecDepth 100000
def RX2 : String := "VisitingHours$World"
def TX2 : u_T := fun k => match k with
  | 0 => ("VisitingHours$World", "texts", "I", false)
  | 1 => ("VisitingHours$World", "hosts", "I", false)
  | 2 => ("VisitingHours$World", "guests", "I", false)
  | 3 => ("VisitingHours$World", "rain", "I", false)
  | 4 => ("VisitingHours$World", "must", "I", false)
  | 5 => ("VisitingHours$World", "not", "I", false)
  | 6 => ("VisitingHours$World", "week", "I", false)
  | 7 => ("VisitingHours$World", "logged", "I", false)
  | 8 => ("VisitingHours$World", "seed", "I", false)
  | 9 => ("VisitingHours$World", "patience", "[I", true)
  | 10 => ("VisitingHours$World", "hours", "[I", true)
  | 11 => ("VisitingHours$World", "glad", "[I", true)
  | 12 => ("VisitingHours$World", "lonely", "[I", true)
  | 13 => ("VisitingHours$World", "stay", "[I", true)
  | 14 => ("VisitingHours$World", "times", "[I", true)
  | 15 => ("VisitingHours$World", "marks", "[I", true)
  | 16 => ("VisitingHours$World", "likes", "[[I", true)
  | 17 => ("VisitingHours$World", "loves", "[[I", true)
  | 18 => ("VisitingHours$World", "booked", "[[I", true)
  | 19 => ("VisitingHours$World", "log", "[I", true)
  | 20 => ("VisitingHours$World", "law", "LVisitingHours$Law;", false)
  | _ => ("VisitingHours$World", "settled", "I", false)
def tyX2 : Nat → FieldType := fun k => match k with
  | 0 => .int
  | 1 => .int
  | 2 => .int
  | 3 => .int
  | 4 => .int
  | 5 => .int
  | 6 => .int
  | 7 => .int
  | 8 => .int
  | 9 => .array .int
  | 10 => .array .int
  | 11 => .array .int
  | 12 => .array .int
  | 13 => .array .int
  | 14 => .array .int
  | 15 => .array .int
  | 16 => .array (.array .int)
  | 17 => .array (.array .int)
  | 18 => .array (.array .int)
  | 19 => .array .int
  | 20 => .object "VisitingHours$Law"
  | _ => .int
abbrev wsX20 : List Cond := u_ws RX2 TX2 22
set_option maxRecDepth 100000 in
theorem nmX2 : ∀ a, a < 22 → ∀ b, b < 22 → a ≠ b → (TX2 a).2.1 ≠ (TX2 b).2.1 := by decide +kernel
set_option maxRecDepth 100000 in
theorem tyX2_ok : ∀ k, k < 22 → parseFieldDescriptor (TX2 k).2.2.1 = some (tyX2 k) := by decide +kernel
abbrev cX2_init : ByteArray := prog_16_method_1_code
def yX2_init : MethodName := ⟨RX2, "<init>", "()V"⟩
def dkwX2_init_4 : List UInt8 := [197, 0, 37, 2, 181, 0, 45, 42, 17, 1, 104, 188, 10, 181, 0, 48, 177]
abbrev dktX2_init_4 : List UInt8 := dkwX2_init_4 ++ []
def dkwX2_init_3 : List UInt8 := [197, 0, 37, 2, 181, 0, 39, 42, 16, 8, 16, 8, 197, 0, 37, 2, 181, 0, 42, 42, 16, 8, 16, 8]
abbrev dktX2_init_3 : List UInt8 := dkwX2_init_3 ++ dktX2_init_4
def dkwX2_init_2 : List UInt8 := [181, 0, 28, 42, 16, 8, 188, 10, 181, 0, 31, 42, 16, 8, 188, 10, 181, 0, 34, 42, 16, 8, 16, 8]
abbrev dktX2_init_2 : List UInt8 := dkwX2_init_2 ++ dktX2_init_3
def dkwX2_init_1 : List UInt8 := [181, 0, 19, 42, 16, 8, 188, 10, 181, 0, 22, 42, 16, 8, 188, 10, 181, 0, 25, 42, 16, 8, 188, 10]
abbrev dktX2_init_1 : List UInt8 := dkwX2_init_1 ++ dktX2_init_2
def dkwX2_init_0 : List UInt8 := [42, 183, 0, 3, 42, 4, 181, 0, 9, 42, 16, 8, 188, 10, 181, 0, 15, 42, 16, 8, 188, 10]
abbrev dktX2_init_0 : List UInt8 := dkwX2_init_0 ++ dktX2_init_1
theorem dksX2_init_0 : cX2_init.data.toList.drop 0 = dktX2_init_0 := by decide +kernel
theorem dksX2_init_1 : cX2_init.data.toList.drop 22 = dktX2_init_1 := dk_seg dksX2_init_0 22 rfl rfl
theorem dksX2_init_2 : cX2_init.data.toList.drop 46 = dktX2_init_2 := dk_seg dksX2_init_1 24 rfl rfl
theorem dksX2_init_3 : cX2_init.data.toList.drop 70 = dktX2_init_3 := dk_seg dksX2_init_2 24 rfl rfl
theorem dksX2_init_4 : cX2_init.data.toList.drop 94 = dktX2_init_4 := dk_seg dksX2_init_3 24 rfl rfl
theorem dX2_init_0 : decode cX2_init 0 = .ok (.aload_n 0, 1) := dk_42 (dk_at dksX2_init_0 0 rfl rfl)
theorem dX2_init_1 : decode cX2_init 1 = .ok (.invokespecial 3, 3) := dk_183 0 3 (dk_at dksX2_init_0 1 rfl rfl)
theorem dX2_init_4 : decode cX2_init 4 = .ok (.aload_n 0, 1) := dk_42 (dk_at dksX2_init_0 4 rfl rfl)
theorem dX2_init_5 : decode cX2_init 5 = .ok (.iconst 1, 1) := dk_4 (dk_at dksX2_init_0 5 rfl rfl)
theorem dX2_init_6 : decode cX2_init 6 = .ok (.putfield 9, 3) := dk_181 0 9 (dk_at dksX2_init_0 6 rfl rfl)
theorem dX2_init_9 : decode cX2_init 9 = .ok (.aload_n 0, 1) := dk_42 (dk_at dksX2_init_0 9 rfl rfl)
theorem dX2_init_10 : decode cX2_init 10 = .ok (.bipush 8, 2) := dk_16 8 (dk_at dksX2_init_0 10 rfl rfl)
theorem dX2_init_12 : decode cX2_init 12 = .ok (.newarray .int, 2) := dk_188_10 (dk_at dksX2_init_0 12 rfl rfl)
theorem dX2_init_14 : decode cX2_init 14 = .ok (.putfield 15, 3) := dk_181 0 15 (dk_at dksX2_init_0 14 rfl rfl)
theorem dX2_init_17 : decode cX2_init 17 = .ok (.aload_n 0, 1) := dk_42 (dk_at dksX2_init_0 17 rfl rfl)
theorem dX2_init_18 : decode cX2_init 18 = .ok (.bipush 8, 2) := dk_16 8 (dk_at dksX2_init_0 18 rfl rfl)
theorem dX2_init_20 : decode cX2_init 20 = .ok (.newarray .int, 2) := dk_188_10 (dk_at dksX2_init_0 20 rfl rfl)
theorem dX2_init_22 : decode cX2_init 22 = .ok (.putfield 19, 3) := dk_181 0 19 (dk_at dksX2_init_1 0 rfl rfl)
theorem dX2_init_25 : decode cX2_init 25 = .ok (.aload_n 0, 1) := dk_42 (dk_at dksX2_init_1 3 rfl rfl)
theorem dX2_init_26 : decode cX2_init 26 = .ok (.bipush 8, 2) := dk_16 8 (dk_at dksX2_init_1 4 rfl rfl)
theorem dX2_init_28 : decode cX2_init 28 = .ok (.newarray .int, 2) := dk_188_10 (dk_at dksX2_init_1 6 rfl rfl)
theorem dX2_init_30 : decode cX2_init 30 = .ok (.putfield 22, 3) := dk_181 0 22 (dk_at dksX2_init_1 8 rfl rfl)
theorem dX2_init_33 : decode cX2_init 33 = .ok (.aload_n 0, 1) := dk_42 (dk_at dksX2_init_1 11 rfl rfl)
theorem dX2_init_34 : decode cX2_init 34 = .ok (.bipush 8, 2) := dk_16 8 (dk_at dksX2_init_1 12 rfl rfl)
theorem dX2_init_36 : decode cX2_init 36 = .ok (.newarray .int, 2) := dk_188_10 (dk_at dksX2_init_1 14 rfl rfl)
theorem dX2_init_38 : decode cX2_init 38 = .ok (.putfield 25, 3) := dk_181 0 25 (dk_at dksX2_init_1 16 rfl rfl)
theorem dX2_init_41 : decode cX2_init 41 = .ok (.aload_n 0, 1) := dk_42 (dk_at dksX2_init_1 19 rfl rfl)
theorem dX2_init_42 : decode cX2_init 42 = .ok (.bipush 8, 2) := dk_16 8 (dk_at dksX2_init_1 20 rfl rfl)
theorem dX2_init_44 : decode cX2_init 44 = .ok (.newarray .int, 2) := dk_188_10 (dk_at dksX2_init_1 22 rfl rfl)
theorem dX2_init_46 : decode cX2_init 46 = .ok (.putfield 28, 3) := dk_181 0 28 (dk_at dksX2_init_2 0 rfl rfl)
theorem dX2_init_49 : decode cX2_init 49 = .ok (.aload_n 0, 1) := dk_42 (dk_at dksX2_init_2 3 rfl rfl)
theorem dX2_init_50 : decode cX2_init 50 = .ok (.bipush 8, 2) := dk_16 8 (dk_at dksX2_init_2 4 rfl rfl)
theorem dX2_init_52 : decode cX2_init 52 = .ok (.newarray .int, 2) := dk_188_10 (dk_at dksX2_init_2 6 rfl rfl)
theorem dX2_init_54 : decode cX2_init 54 = .ok (.putfield 31, 3) := dk_181 0 31 (dk_at dksX2_init_2 8 rfl rfl)
theorem dX2_init_57 : decode cX2_init 57 = .ok (.aload_n 0, 1) := dk_42 (dk_at dksX2_init_2 11 rfl rfl)
theorem dX2_init_58 : decode cX2_init 58 = .ok (.bipush 8, 2) := dk_16 8 (dk_at dksX2_init_2 12 rfl rfl)
theorem dX2_init_60 : decode cX2_init 60 = .ok (.newarray .int, 2) := dk_188_10 (dk_at dksX2_init_2 14 rfl rfl)
theorem dX2_init_62 : decode cX2_init 62 = .ok (.putfield 34, 3) := dk_181 0 34 (dk_at dksX2_init_2 16 rfl rfl)
theorem dX2_init_65 : decode cX2_init 65 = .ok (.aload_n 0, 1) := dk_42 (dk_at dksX2_init_2 19 rfl rfl)
theorem dX2_init_66 : decode cX2_init 66 = .ok (.bipush 8, 2) := dk_16 8 (dk_at dksX2_init_2 20 rfl rfl)
theorem dX2_init_68 : decode cX2_init 68 = .ok (.bipush 8, 2) := dk_16 8 (dk_at dksX2_init_2 22 rfl rfl)
theorem dX2_init_70 : decode cX2_init 70 = .ok (.multianewarray 37 2, 4) := by decide +kernel
theorem dX2_init_74 : decode cX2_init 74 = .ok (.putfield 39, 3) := dk_181 0 39 (dk_at dksX2_init_3 4 rfl rfl)
theorem dX2_init_77 : decode cX2_init 77 = .ok (.aload_n 0, 1) := dk_42 (dk_at dksX2_init_3 7 rfl rfl)
theorem dX2_init_78 : decode cX2_init 78 = .ok (.bipush 8, 2) := dk_16 8 (dk_at dksX2_init_3 8 rfl rfl)
theorem dX2_init_80 : decode cX2_init 80 = .ok (.bipush 8, 2) := dk_16 8 (dk_at dksX2_init_3 10 rfl rfl)
theorem dX2_init_82 : decode cX2_init 82 = .ok (.multianewarray 37 2, 4) := by decide +kernel
theorem dX2_init_86 : decode cX2_init 86 = .ok (.putfield 42, 3) := dk_181 0 42 (dk_at dksX2_init_3 16 rfl rfl)
theorem dX2_init_89 : decode cX2_init 89 = .ok (.aload_n 0, 1) := dk_42 (dk_at dksX2_init_3 19 rfl rfl)
theorem dX2_init_90 : decode cX2_init 90 = .ok (.bipush 8, 2) := dk_16 8 (dk_at dksX2_init_3 20 rfl rfl)
theorem dX2_init_92 : decode cX2_init 92 = .ok (.bipush 8, 2) := dk_16 8 (dk_at dksX2_init_3 22 rfl rfl)
theorem dX2_init_94 : decode cX2_init 94 = .ok (.multianewarray 37 2, 4) := by decide +kernel
theorem dX2_init_98 : decode cX2_init 98 = .ok (.putfield 45, 3) := dk_181 0 45 (dk_at dksX2_init_4 4 rfl rfl)
theorem dX2_init_101 : decode cX2_init 101 = .ok (.aload_n 0, 1) := dk_42 (dk_at dksX2_init_4 7 rfl rfl)
theorem dX2_init_102 : decode cX2_init 102 = .ok (.sipush 360, 3) := dk_17 1 104 (dk_at dksX2_init_4 8 rfl rfl)
theorem dX2_init_105 : decode cX2_init 105 = .ok (.newarray .int, 2) := dk_188_10 (dk_at dksX2_init_4 11 rfl rfl)
theorem dX2_init_107 : decode cX2_init 107 = .ok (.putfield 48, 3) := dk_181 0 48 (dk_at dksX2_init_4 13 rfl rfl)
theorem dX2_init_110 : decode cX2_init 110 = .ok (.return_, 1) := dk_177 (dk_at dksX2_init_4 16 rfl rfl)
abbrev cX2_can : ByteArray := prog_16_method_6_code
def yX2_can : MethodName := ⟨RX2, "can", "(III)Z"⟩
def dkwX2_can_1 : List UInt8 := [153, 0, 16, 42, 27, 28, 182, 0, 97, 153, 0, 7, 4, 167, 0, 4, 3, 172]
abbrev dktX2_can_1 : List UInt8 := dkwX2_can_1 ++ []
def dkwX2_can_0 : List UInt8 := [42, 180, 0, 19, 27, 46, 29, 184, 0, 93, 153, 0, 29, 42, 180, 0, 31, 28, 46, 29, 184, 0, 93]
abbrev dktX2_can_0 : List UInt8 := dkwX2_can_0 ++ dktX2_can_1
theorem dksX2_can_0 : cX2_can.data.toList.drop 0 = dktX2_can_0 := by decide +kernel
theorem dksX2_can_1 : cX2_can.data.toList.drop 23 = dktX2_can_1 := dk_seg dksX2_can_0 23 rfl rfl
theorem dX2_can_0 : decode cX2_can 0 = .ok (.aload_n 0, 1) := dk_42 (dk_at dksX2_can_0 0 rfl rfl)
theorem dX2_can_1 : decode cX2_can 1 = .ok (.getfield 19, 3) := dk_180 0 19 (dk_at dksX2_can_0 1 rfl rfl)
theorem dX2_can_4 : decode cX2_can 4 = .ok (.iload_n 1, 1) := dk_27 (dk_at dksX2_can_0 4 rfl rfl)
theorem dX2_can_5 : decode cX2_can 5 = .ok (.iaload, 1) := dk_46 (dk_at dksX2_can_0 5 rfl rfl)
theorem dX2_can_6 : decode cX2_can 6 = .ok (.iload_n 3, 1) := dk_29 (dk_at dksX2_can_0 6 rfl rfl)
theorem dX2_can_7 : decode cX2_can 7 = .ok (.invokestatic 93, 3) := dk_184 0 93 (dk_at dksX2_can_0 7 rfl rfl)
theorem dX2_can_10 : decode cX2_can 10 = .ok (.ifCond .eq 29, 3) := dk_153 0 29 (dk_at dksX2_can_0 10 rfl rfl)
theorem dX2_can_13 : decode cX2_can 13 = .ok (.aload_n 0, 1) := dk_42 (dk_at dksX2_can_0 13 rfl rfl)
theorem dX2_can_14 : decode cX2_can 14 = .ok (.getfield 31, 3) := dk_180 0 31 (dk_at dksX2_can_0 14 rfl rfl)
theorem dX2_can_17 : decode cX2_can 17 = .ok (.iload_n 2, 1) := dk_28 (dk_at dksX2_can_0 17 rfl rfl)
theorem dX2_can_18 : decode cX2_can 18 = .ok (.iaload, 1) := dk_46 (dk_at dksX2_can_0 18 rfl rfl)
theorem dX2_can_19 : decode cX2_can 19 = .ok (.iload_n 3, 1) := dk_29 (dk_at dksX2_can_0 19 rfl rfl)
theorem dX2_can_20 : decode cX2_can 20 = .ok (.invokestatic 93, 3) := dk_184 0 93 (dk_at dksX2_can_0 20 rfl rfl)
theorem dX2_can_23 : decode cX2_can 23 = .ok (.ifCond .eq 16, 3) := dk_153 0 16 (dk_at dksX2_can_1 0 rfl rfl)
theorem dX2_can_26 : decode cX2_can 26 = .ok (.aload_n 0, 1) := dk_42 (dk_at dksX2_can_1 3 rfl rfl)
theorem dX2_can_27 : decode cX2_can 27 = .ok (.iload_n 1, 1) := dk_27 (dk_at dksX2_can_1 4 rfl rfl)
theorem dX2_can_28 : decode cX2_can 28 = .ok (.iload_n 2, 1) := dk_28 (dk_at dksX2_can_1 5 rfl rfl)
theorem dX2_can_29 : decode cX2_can 29 = .ok (.invokevirtual 97, 3) := dk_182 0 97 (dk_at dksX2_can_1 6 rfl rfl)
theorem dX2_can_32 : decode cX2_can 32 = .ok (.ifCond .eq 7, 3) := dk_153 0 7 (dk_at dksX2_can_1 9 rfl rfl)
theorem dX2_can_35 : decode cX2_can 35 = .ok (.iconst 1, 1) := dk_4 (dk_at dksX2_can_1 12 rfl rfl)
theorem dX2_can_36 : decode cX2_can 36 = .ok (.goto 4, 3) := dk_167 0 4 (dk_at dksX2_can_1 13 rfl rfl)
theorem dX2_can_39 : decode cX2_can 39 = .ok (.iconst 0, 1) := dk_3 (dk_at dksX2_can_1 16 rfl rfl)
theorem dX2_can_40 : decode cX2_can 40 = .ok (.ireturn, 1) := dk_172 (dk_at dksX2_can_1 17 rfl rfl)
abbrev cX2_both : ByteArray := prog_16_method_5_code
def yX2_both : MethodName := ⟨RX2, "both", "(II)Z"⟩
def dkwX2_both_1 : List UInt8 := [167, 0, 4, 3, 172]
abbrev dktX2_both_1 : List UInt8 := dkwX2_both_1 ++ []
def dkwX2_both_0 : List UInt8 := [42, 180, 0, 39, 27, 50, 28, 46, 158, 0, 18, 42, 180, 0, 42, 28, 50, 27, 46, 158, 0, 7, 4]
abbrev dktX2_both_0 : List UInt8 := dkwX2_both_0 ++ dktX2_both_1
theorem dksX2_both_0 : cX2_both.data.toList.drop 0 = dktX2_both_0 := by decide +kernel
theorem dksX2_both_1 : cX2_both.data.toList.drop 23 = dktX2_both_1 := dk_seg dksX2_both_0 23 rfl rfl
theorem dX2_both_0 : decode cX2_both 0 = .ok (.aload_n 0, 1) := dk_42 (dk_at dksX2_both_0 0 rfl rfl)
theorem dX2_both_1 : decode cX2_both 1 = .ok (.getfield 39, 3) := dk_180 0 39 (dk_at dksX2_both_0 1 rfl rfl)
theorem dX2_both_4 : decode cX2_both 4 = .ok (.iload_n 1, 1) := dk_27 (dk_at dksX2_both_0 4 rfl rfl)
theorem dX2_both_5 : decode cX2_both 5 = .ok (.aaload, 1) := dk_50 (dk_at dksX2_both_0 5 rfl rfl)
theorem dX2_both_6 : decode cX2_both 6 = .ok (.iload_n 2, 1) := dk_28 (dk_at dksX2_both_0 6 rfl rfl)
theorem dX2_both_7 : decode cX2_both 7 = .ok (.iaload, 1) := dk_46 (dk_at dksX2_both_0 7 rfl rfl)
theorem dX2_both_8 : decode cX2_both 8 = .ok (.ifCond .le 18, 3) := dk_158 0 18 (dk_at dksX2_both_0 8 rfl rfl)
theorem dX2_both_11 : decode cX2_both 11 = .ok (.aload_n 0, 1) := dk_42 (dk_at dksX2_both_0 11 rfl rfl)
theorem dX2_both_12 : decode cX2_both 12 = .ok (.getfield 42, 3) := dk_180 0 42 (dk_at dksX2_both_0 12 rfl rfl)
theorem dX2_both_15 : decode cX2_both 15 = .ok (.iload_n 2, 1) := dk_28 (dk_at dksX2_both_0 15 rfl rfl)
theorem dX2_both_16 : decode cX2_both 16 = .ok (.aaload, 1) := dk_50 (dk_at dksX2_both_0 16 rfl rfl)
theorem dX2_both_17 : decode cX2_both 17 = .ok (.iload_n 1, 1) := dk_27 (dk_at dksX2_both_0 17 rfl rfl)
theorem dX2_both_18 : decode cX2_both 18 = .ok (.iaload, 1) := dk_46 (dk_at dksX2_both_0 18 rfl rfl)
theorem dX2_both_19 : decode cX2_both 19 = .ok (.ifCond .le 7, 3) := dk_158 0 7 (dk_at dksX2_both_0 19 rfl rfl)
theorem dX2_both_22 : decode cX2_both 22 = .ok (.iconst 1, 1) := dk_4 (dk_at dksX2_both_0 22 rfl rfl)
theorem dX2_both_23 : decode cX2_both 23 = .ok (.goto 4, 3) := dk_167 0 4 (dk_at dksX2_both_1 0 rfl rfl)
theorem dX2_both_26 : decode cX2_both 26 = .ok (.iconst 0, 1) := dk_3 (dk_at dksX2_both_1 3 rfl rfl)
theorem dX2_both_27 : decode cX2_both 27 = .ok (.ireturn, 1) := dk_172 (dk_at dksX2_both_1 4 rfl rfl)
abbrev cX2_isMarked : ByteArray := prog_16_method_7_code
def yX2_isMarked : MethodName := ⟨RX2, "isMarked", "(I)Z"⟩
def dkwX2_isMarked_1 : List UInt8 := [42, 180, 0, 66, 126, 154, 0, 7, 4, 167, 0, 4, 3, 172]
abbrev dktX2_isMarked_1 : List UInt8 := dkwX2_isMarked_1 ++ []
def dkwX2_isMarked_0 : List UInt8 := [42, 180, 0, 34, 27, 46, 42, 180, 0, 63, 126, 42, 180, 0, 63, 160, 0, 21, 42, 180, 0, 34, 27, 46]
abbrev dktX2_isMarked_0 : List UInt8 := dkwX2_isMarked_0 ++ dktX2_isMarked_1
theorem dksX2_isMarked_0 : cX2_isMarked.data.toList.drop 0 = dktX2_isMarked_0 := by decide +kernel
theorem dksX2_isMarked_1 : cX2_isMarked.data.toList.drop 24 = dktX2_isMarked_1 := dk_seg dksX2_isMarked_0 24 rfl rfl
theorem dX2_isMarked_0 : decode cX2_isMarked 0 = .ok (.aload_n 0, 1) := dk_42 (dk_at dksX2_isMarked_0 0 rfl rfl)
theorem dX2_isMarked_1 : decode cX2_isMarked 1 = .ok (.getfield 34, 3) := dk_180 0 34 (dk_at dksX2_isMarked_0 1 rfl rfl)
theorem dX2_isMarked_4 : decode cX2_isMarked 4 = .ok (.iload_n 1, 1) := dk_27 (dk_at dksX2_isMarked_0 4 rfl rfl)
theorem dX2_isMarked_5 : decode cX2_isMarked 5 = .ok (.iaload, 1) := dk_46 (dk_at dksX2_isMarked_0 5 rfl rfl)
theorem dX2_isMarked_6 : decode cX2_isMarked 6 = .ok (.aload_n 0, 1) := dk_42 (dk_at dksX2_isMarked_0 6 rfl rfl)
theorem dX2_isMarked_7 : decode cX2_isMarked 7 = .ok (.getfield 63, 3) := dk_180 0 63 (dk_at dksX2_isMarked_0 7 rfl rfl)
theorem dX2_isMarked_10 : decode cX2_isMarked 10 = .ok (.iand, 1) := dk_126 (dk_at dksX2_isMarked_0 10 rfl rfl)
theorem dX2_isMarked_11 : decode cX2_isMarked 11 = .ok (.aload_n 0, 1) := dk_42 (dk_at dksX2_isMarked_0 11 rfl rfl)
theorem dX2_isMarked_12 : decode cX2_isMarked 12 = .ok (.getfield 63, 3) := dk_180 0 63 (dk_at dksX2_isMarked_0 12 rfl rfl)
theorem dX2_isMarked_15 : decode cX2_isMarked 15 = .ok (.if_icmp .ne 21, 3) := dk_160 0 21 (dk_at dksX2_isMarked_0 15 rfl rfl)
theorem dX2_isMarked_18 : decode cX2_isMarked 18 = .ok (.aload_n 0, 1) := dk_42 (dk_at dksX2_isMarked_0 18 rfl rfl)
theorem dX2_isMarked_19 : decode cX2_isMarked 19 = .ok (.getfield 34, 3) := dk_180 0 34 (dk_at dksX2_isMarked_0 19 rfl rfl)
theorem dX2_isMarked_22 : decode cX2_isMarked 22 = .ok (.iload_n 1, 1) := dk_27 (dk_at dksX2_isMarked_0 22 rfl rfl)
theorem dX2_isMarked_23 : decode cX2_isMarked 23 = .ok (.iaload, 1) := dk_46 (dk_at dksX2_isMarked_0 23 rfl rfl)
theorem dX2_isMarked_24 : decode cX2_isMarked 24 = .ok (.aload_n 0, 1) := dk_42 (dk_at dksX2_isMarked_1 0 rfl rfl)
theorem dX2_isMarked_25 : decode cX2_isMarked 25 = .ok (.getfield 66, 3) := dk_180 0 66 (dk_at dksX2_isMarked_1 1 rfl rfl)
theorem dX2_isMarked_28 : decode cX2_isMarked 28 = .ok (.iand, 1) := dk_126 (dk_at dksX2_isMarked_1 4 rfl rfl)
theorem dX2_isMarked_29 : decode cX2_isMarked 29 = .ok (.ifCond .ne 7, 3) := dk_154 0 7 (dk_at dksX2_isMarked_1 5 rfl rfl)
theorem dX2_isMarked_32 : decode cX2_isMarked 32 = .ok (.iconst 1, 1) := dk_4 (dk_at dksX2_isMarked_1 8 rfl rfl)
theorem dX2_isMarked_33 : decode cX2_isMarked 33 = .ok (.goto 4, 3) := dk_167 0 4 (dk_at dksX2_isMarked_1 9 rfl rfl)
theorem dX2_isMarked_36 : decode cX2_isMarked 36 = .ok (.iconst 0, 1) := dk_3 (dk_at dksX2_isMarked_1 12 rfl rfl)
theorem dX2_isMarked_37 : decode cX2_isMarked 37 = .ok (.ireturn, 1) := dk_172 (dk_at dksX2_isMarked_1 13 rfl rfl)
abbrev cX2_sees : ByteArray := prog_16_method_9_code
def yX2_sees : MethodName := ⟨RX2, "sees", "(I)I"⟩
def dkwX2_sees_1 : List UInt8 := [167, 0, 13, 4, 42, 180, 0, 45, 27, 50, 29, 46, 120, 128, 61, 132, 3, 1, 167, 255, 218, 28, 172]
abbrev dktX2_sees_1 : List UInt8 := dkwX2_sees_1 ++ []
def dkwX2_sees_0 : List UInt8 := [3, 61, 3, 62, 29, 16, 8, 162, 0, 38, 28, 42, 180, 0, 45, 27, 50, 29, 46, 2, 160, 0, 7, 3]
abbrev dktX2_sees_0 : List UInt8 := dkwX2_sees_0 ++ dktX2_sees_1
theorem dksX2_sees_0 : cX2_sees.data.toList.drop 0 = dktX2_sees_0 := by decide +kernel
theorem dksX2_sees_1 : cX2_sees.data.toList.drop 24 = dktX2_sees_1 := dk_seg dksX2_sees_0 24 rfl rfl
theorem dX2_sees_0 : decode cX2_sees 0 = .ok (.iconst 0, 1) := dk_3 (dk_at dksX2_sees_0 0 rfl rfl)
theorem dX2_sees_1 : decode cX2_sees 1 = .ok (.istore_n 2, 1) := dk_61 (dk_at dksX2_sees_0 1 rfl rfl)
theorem dX2_sees_2 : decode cX2_sees 2 = .ok (.iconst 0, 1) := dk_3 (dk_at dksX2_sees_0 2 rfl rfl)
theorem dX2_sees_3 : decode cX2_sees 3 = .ok (.istore_n 3, 1) := dk_62 (dk_at dksX2_sees_0 3 rfl rfl)
theorem dX2_sees_4 : decode cX2_sees 4 = .ok (.iload_n 3, 1) := dk_29 (dk_at dksX2_sees_0 4 rfl rfl)
theorem dX2_sees_5 : decode cX2_sees 5 = .ok (.bipush 8, 2) := dk_16 8 (dk_at dksX2_sees_0 5 rfl rfl)
theorem dX2_sees_7 : decode cX2_sees 7 = .ok (.if_icmp .ge 38, 3) := dk_162 0 38 (dk_at dksX2_sees_0 7 rfl rfl)
theorem dX2_sees_10 : decode cX2_sees 10 = .ok (.iload_n 2, 1) := dk_28 (dk_at dksX2_sees_0 10 rfl rfl)
theorem dX2_sees_11 : decode cX2_sees 11 = .ok (.aload_n 0, 1) := dk_42 (dk_at dksX2_sees_0 11 rfl rfl)
theorem dX2_sees_12 : decode cX2_sees 12 = .ok (.getfield 45, 3) := dk_180 0 45 (dk_at dksX2_sees_0 12 rfl rfl)
theorem dX2_sees_15 : decode cX2_sees 15 = .ok (.iload_n 1, 1) := dk_27 (dk_at dksX2_sees_0 15 rfl rfl)
theorem dX2_sees_16 : decode cX2_sees 16 = .ok (.aaload, 1) := dk_50 (dk_at dksX2_sees_0 16 rfl rfl)
theorem dX2_sees_17 : decode cX2_sees 17 = .ok (.iload_n 3, 1) := dk_29 (dk_at dksX2_sees_0 17 rfl rfl)
theorem dX2_sees_18 : decode cX2_sees 18 = .ok (.iaload, 1) := dk_46 (dk_at dksX2_sees_0 18 rfl rfl)
theorem dX2_sees_19 : decode cX2_sees 19 = .ok (.iconst (-1), 1) := dk_2 (dk_at dksX2_sees_0 19 rfl rfl)
theorem dX2_sees_20 : decode cX2_sees 20 = .ok (.if_icmp .ne 7, 3) := dk_160 0 7 (dk_at dksX2_sees_0 20 rfl rfl)
theorem dX2_sees_23 : decode cX2_sees 23 = .ok (.iconst 0, 1) := dk_3 (dk_at dksX2_sees_0 23 rfl rfl)
theorem dX2_sees_24 : decode cX2_sees 24 = .ok (.goto 13, 3) := dk_167 0 13 (dk_at dksX2_sees_1 0 rfl rfl)
theorem dX2_sees_27 : decode cX2_sees 27 = .ok (.iconst 1, 1) := dk_4 (dk_at dksX2_sees_1 3 rfl rfl)
theorem dX2_sees_28 : decode cX2_sees 28 = .ok (.aload_n 0, 1) := dk_42 (dk_at dksX2_sees_1 4 rfl rfl)
theorem dX2_sees_29 : decode cX2_sees 29 = .ok (.getfield 45, 3) := dk_180 0 45 (dk_at dksX2_sees_1 5 rfl rfl)
theorem dX2_sees_32 : decode cX2_sees 32 = .ok (.iload_n 1, 1) := dk_27 (dk_at dksX2_sees_1 8 rfl rfl)
theorem dX2_sees_33 : decode cX2_sees 33 = .ok (.aaload, 1) := dk_50 (dk_at dksX2_sees_1 9 rfl rfl)
theorem dX2_sees_34 : decode cX2_sees 34 = .ok (.iload_n 3, 1) := dk_29 (dk_at dksX2_sees_1 10 rfl rfl)
theorem dX2_sees_35 : decode cX2_sees 35 = .ok (.iaload, 1) := dk_46 (dk_at dksX2_sees_1 11 rfl rfl)
theorem dX2_sees_36 : decode cX2_sees 36 = .ok (.ishl, 1) := dk_120 (dk_at dksX2_sees_1 12 rfl rfl)
theorem dX2_sees_37 : decode cX2_sees 37 = .ok (.ior, 1) := dk_128 (dk_at dksX2_sees_1 13 rfl rfl)
theorem dX2_sees_38 : decode cX2_sees 38 = .ok (.istore_n 2, 1) := dk_61 (dk_at dksX2_sees_1 14 rfl rfl)
theorem dX2_sees_39 : decode cX2_sees 39 = .ok (.iinc 3 1, 3) := dk_132 3 1 (dk_at dksX2_sees_1 15 rfl rfl)
theorem dX2_sees_42 : decode cX2_sees 42 = .ok (.goto (-38), 3) := dk_167 255 218 (dk_at dksX2_sees_1 18 rfl rfl)
theorem dX2_sees_45 : decode cX2_sees 45 = .ok (.iload_n 2, 1) := dk_28 (dk_at dksX2_sees_1 21 rfl rfl)
theorem dX2_sees_46 : decode cX2_sees 46 = .ok (.ireturn, 1) := dk_172 (dk_at dksX2_sees_1 22 rfl rfl)
abbrev cX2_likens : ByteArray := prog_16_method_2_code
def yX2_likens : MethodName := ⟨RX2, "likens", "(LVisitingHours$World;)LVisitingHours$World;"⟩
def dkwX2_likens_9 : List UInt8 := [132, 2, 1, 167, 255, 202, 43, 180, 0, 48, 42, 180, 0, 48, 184, 0, 79, 42, 3, 181, 0, 83, 42, 176]
abbrev dktX2_likens_9 : List UInt8 := dkwX2_likens_9 ++ []
def dkwX2_likens_8 : List UInt8 := [42, 180, 0, 42, 28, 50, 184, 0, 79, 43, 180, 0, 45, 28, 50, 42, 180, 0, 45, 28, 50, 184, 0, 79]
abbrev dktX2_likens_8 : List UInt8 := dkwX2_likens_8 ++ dktX2_likens_9
def dkwX2_likens_7 : List UInt8 := [162, 0, 54, 43, 180, 0, 39, 28, 50, 42, 180, 0, 39, 28, 50, 184, 0, 79, 43, 180, 0, 42, 28, 50]
abbrev dktX2_likens_7 : List UInt8 := dkwX2_likens_7 ++ dktX2_likens_8
def dkwX2_likens_6 : List UInt8 := [180, 0, 31, 184, 0, 79, 43, 180, 0, 34, 42, 180, 0, 34, 184, 0, 79, 3, 61, 28, 16, 8]
abbrev dktX2_likens_6 : List UInt8 := dkwX2_likens_6 ++ dktX2_likens_7
def dkwX2_likens_5 : List UInt8 := [180, 0, 25, 184, 0, 79, 43, 180, 0, 28, 42, 180, 0, 28, 184, 0, 79, 43, 180, 0, 31, 42]
abbrev dktX2_likens_5 : List UInt8 := dkwX2_likens_5 ++ dktX2_likens_6
def dkwX2_likens_4 : List UInt8 := [180, 0, 19, 184, 0, 79, 43, 180, 0, 22, 42, 180, 0, 22, 184, 0, 79, 43, 180, 0, 25, 42]
abbrev dktX2_likens_4 : List UInt8 := dkwX2_likens_4 ++ dktX2_likens_5
def dkwX2_likens_3 : List UInt8 := [42, 43, 180, 0, 75, 181, 0, 75, 43, 180, 0, 15, 42, 180, 0, 15, 184, 0, 79, 43, 180, 0, 19, 42]
abbrev dktX2_likens_3 : List UInt8 := dkwX2_likens_3 ++ dktX2_likens_4
def dkwX2_likens_2 : List UInt8 := [42, 43, 180, 0, 69, 181, 0, 69, 42, 43, 180, 0, 72, 181, 0, 72, 42, 43, 180, 0, 9, 181, 0, 9]
abbrev dktX2_likens_2 : List UInt8 := dkwX2_likens_2 ++ dktX2_likens_3
def dkwX2_likens_1 : List UInt8 := [42, 43, 180, 0, 60, 181, 0, 60, 42, 43, 180, 0, 63, 181, 0, 63, 42, 43, 180, 0, 66, 181, 0, 66]
abbrev dktX2_likens_1 : List UInt8 := dkwX2_likens_1 ++ dktX2_likens_2
def dkwX2_likens_0 : List UInt8 := [42, 43, 180, 0, 51, 181, 0, 51, 42, 43, 180, 0, 54, 181, 0, 54, 42, 43, 180, 0, 57, 181, 0, 57]
abbrev dktX2_likens_0 : List UInt8 := dkwX2_likens_0 ++ dktX2_likens_1
theorem dksX2_likens_0 : cX2_likens.data.toList.drop 0 = dktX2_likens_0 := by decide +kernel
theorem dksX2_likens_1 : cX2_likens.data.toList.drop 24 = dktX2_likens_1 := dk_seg dksX2_likens_0 24 rfl rfl
theorem dksX2_likens_2 : cX2_likens.data.toList.drop 48 = dktX2_likens_2 := dk_seg dksX2_likens_1 24 rfl rfl
theorem dksX2_likens_3 : cX2_likens.data.toList.drop 72 = dktX2_likens_3 := dk_seg dksX2_likens_2 24 rfl rfl
theorem dksX2_likens_4 : cX2_likens.data.toList.drop 96 = dktX2_likens_4 := dk_seg dksX2_likens_3 24 rfl rfl
theorem dksX2_likens_5 : cX2_likens.data.toList.drop 118 = dktX2_likens_5 := dk_seg dksX2_likens_4 22 rfl rfl
theorem dksX2_likens_6 : cX2_likens.data.toList.drop 140 = dktX2_likens_6 := dk_seg dksX2_likens_5 22 rfl rfl
theorem dksX2_likens_7 : cX2_likens.data.toList.drop 162 = dktX2_likens_7 := dk_seg dksX2_likens_6 22 rfl rfl
theorem dksX2_likens_8 : cX2_likens.data.toList.drop 186 = dktX2_likens_8 := dk_seg dksX2_likens_7 24 rfl rfl
theorem dksX2_likens_9 : cX2_likens.data.toList.drop 210 = dktX2_likens_9 := dk_seg dksX2_likens_8 24 rfl rfl
theorem dX2_likens_0 : decode cX2_likens 0 = .ok (.aload_n 0, 1) := dk_42 (dk_at dksX2_likens_0 0 rfl rfl)
theorem dX2_likens_1 : decode cX2_likens 1 = .ok (.aload_n 1, 1) := dk_43 (dk_at dksX2_likens_0 1 rfl rfl)
theorem dX2_likens_2 : decode cX2_likens 2 = .ok (.getfield 51, 3) := dk_180 0 51 (dk_at dksX2_likens_0 2 rfl rfl)
theorem dX2_likens_5 : decode cX2_likens 5 = .ok (.putfield 51, 3) := dk_181 0 51 (dk_at dksX2_likens_0 5 rfl rfl)
theorem dX2_likens_8 : decode cX2_likens 8 = .ok (.aload_n 0, 1) := dk_42 (dk_at dksX2_likens_0 8 rfl rfl)
theorem dX2_likens_9 : decode cX2_likens 9 = .ok (.aload_n 1, 1) := dk_43 (dk_at dksX2_likens_0 9 rfl rfl)
theorem dX2_likens_10 : decode cX2_likens 10 = .ok (.getfield 54, 3) := dk_180 0 54 (dk_at dksX2_likens_0 10 rfl rfl)
theorem dX2_likens_13 : decode cX2_likens 13 = .ok (.putfield 54, 3) := dk_181 0 54 (dk_at dksX2_likens_0 13 rfl rfl)
theorem dX2_likens_16 : decode cX2_likens 16 = .ok (.aload_n 0, 1) := dk_42 (dk_at dksX2_likens_0 16 rfl rfl)
theorem dX2_likens_17 : decode cX2_likens 17 = .ok (.aload_n 1, 1) := dk_43 (dk_at dksX2_likens_0 17 rfl rfl)
theorem dX2_likens_18 : decode cX2_likens 18 = .ok (.getfield 57, 3) := dk_180 0 57 (dk_at dksX2_likens_0 18 rfl rfl)
theorem dX2_likens_21 : decode cX2_likens 21 = .ok (.putfield 57, 3) := dk_181 0 57 (dk_at dksX2_likens_0 21 rfl rfl)
theorem dX2_likens_24 : decode cX2_likens 24 = .ok (.aload_n 0, 1) := dk_42 (dk_at dksX2_likens_1 0 rfl rfl)
theorem dX2_likens_25 : decode cX2_likens 25 = .ok (.aload_n 1, 1) := dk_43 (dk_at dksX2_likens_1 1 rfl rfl)
theorem dX2_likens_26 : decode cX2_likens 26 = .ok (.getfield 60, 3) := dk_180 0 60 (dk_at dksX2_likens_1 2 rfl rfl)
theorem dX2_likens_29 : decode cX2_likens 29 = .ok (.putfield 60, 3) := dk_181 0 60 (dk_at dksX2_likens_1 5 rfl rfl)
theorem dX2_likens_32 : decode cX2_likens 32 = .ok (.aload_n 0, 1) := dk_42 (dk_at dksX2_likens_1 8 rfl rfl)
theorem dX2_likens_33 : decode cX2_likens 33 = .ok (.aload_n 1, 1) := dk_43 (dk_at dksX2_likens_1 9 rfl rfl)
theorem dX2_likens_34 : decode cX2_likens 34 = .ok (.getfield 63, 3) := dk_180 0 63 (dk_at dksX2_likens_1 10 rfl rfl)
theorem dX2_likens_37 : decode cX2_likens 37 = .ok (.putfield 63, 3) := dk_181 0 63 (dk_at dksX2_likens_1 13 rfl rfl)
theorem dX2_likens_40 : decode cX2_likens 40 = .ok (.aload_n 0, 1) := dk_42 (dk_at dksX2_likens_1 16 rfl rfl)
theorem dX2_likens_41 : decode cX2_likens 41 = .ok (.aload_n 1, 1) := dk_43 (dk_at dksX2_likens_1 17 rfl rfl)
theorem dX2_likens_42 : decode cX2_likens 42 = .ok (.getfield 66, 3) := dk_180 0 66 (dk_at dksX2_likens_1 18 rfl rfl)
theorem dX2_likens_45 : decode cX2_likens 45 = .ok (.putfield 66, 3) := dk_181 0 66 (dk_at dksX2_likens_1 21 rfl rfl)
theorem dX2_likens_48 : decode cX2_likens 48 = .ok (.aload_n 0, 1) := dk_42 (dk_at dksX2_likens_2 0 rfl rfl)
theorem dX2_likens_49 : decode cX2_likens 49 = .ok (.aload_n 1, 1) := dk_43 (dk_at dksX2_likens_2 1 rfl rfl)
theorem dX2_likens_50 : decode cX2_likens 50 = .ok (.getfield 69, 3) := dk_180 0 69 (dk_at dksX2_likens_2 2 rfl rfl)
theorem dX2_likens_53 : decode cX2_likens 53 = .ok (.putfield 69, 3) := dk_181 0 69 (dk_at dksX2_likens_2 5 rfl rfl)
theorem dX2_likens_56 : decode cX2_likens 56 = .ok (.aload_n 0, 1) := dk_42 (dk_at dksX2_likens_2 8 rfl rfl)
theorem dX2_likens_57 : decode cX2_likens 57 = .ok (.aload_n 1, 1) := dk_43 (dk_at dksX2_likens_2 9 rfl rfl)
theorem dX2_likens_58 : decode cX2_likens 58 = .ok (.getfield 72, 3) := dk_180 0 72 (dk_at dksX2_likens_2 10 rfl rfl)
theorem dX2_likens_61 : decode cX2_likens 61 = .ok (.putfield 72, 3) := dk_181 0 72 (dk_at dksX2_likens_2 13 rfl rfl)
theorem dX2_likens_64 : decode cX2_likens 64 = .ok (.aload_n 0, 1) := dk_42 (dk_at dksX2_likens_2 16 rfl rfl)
theorem dX2_likens_65 : decode cX2_likens 65 = .ok (.aload_n 1, 1) := dk_43 (dk_at dksX2_likens_2 17 rfl rfl)
theorem dX2_likens_66 : decode cX2_likens 66 = .ok (.getfield 9, 3) := dk_180 0 9 (dk_at dksX2_likens_2 18 rfl rfl)
theorem dX2_likens_69 : decode cX2_likens 69 = .ok (.putfield 9, 3) := dk_181 0 9 (dk_at dksX2_likens_2 21 rfl rfl)
theorem dX2_likens_72 : decode cX2_likens 72 = .ok (.aload_n 0, 1) := dk_42 (dk_at dksX2_likens_3 0 rfl rfl)
theorem dX2_likens_73 : decode cX2_likens 73 = .ok (.aload_n 1, 1) := dk_43 (dk_at dksX2_likens_3 1 rfl rfl)
theorem dX2_likens_74 : decode cX2_likens 74 = .ok (.getfield 75, 3) := dk_180 0 75 (dk_at dksX2_likens_3 2 rfl rfl)
theorem dX2_likens_77 : decode cX2_likens 77 = .ok (.putfield 75, 3) := dk_181 0 75 (dk_at dksX2_likens_3 5 rfl rfl)
theorem dX2_likens_80 : decode cX2_likens 80 = .ok (.aload_n 1, 1) := dk_43 (dk_at dksX2_likens_3 8 rfl rfl)
theorem dX2_likens_81 : decode cX2_likens 81 = .ok (.getfield 15, 3) := dk_180 0 15 (dk_at dksX2_likens_3 9 rfl rfl)
theorem dX2_likens_84 : decode cX2_likens 84 = .ok (.aload_n 0, 1) := dk_42 (dk_at dksX2_likens_3 12 rfl rfl)
theorem dX2_likens_85 : decode cX2_likens 85 = .ok (.getfield 15, 3) := dk_180 0 15 (dk_at dksX2_likens_3 13 rfl rfl)
theorem dX2_likens_88 : decode cX2_likens 88 = .ok (.invokestatic 79, 3) := dk_184 0 79 (dk_at dksX2_likens_3 16 rfl rfl)
theorem dX2_likens_91 : decode cX2_likens 91 = .ok (.aload_n 1, 1) := dk_43 (dk_at dksX2_likens_3 19 rfl rfl)
theorem dX2_likens_92 : decode cX2_likens 92 = .ok (.getfield 19, 3) := dk_180 0 19 (dk_at dksX2_likens_3 20 rfl rfl)
theorem dX2_likens_95 : decode cX2_likens 95 = .ok (.aload_n 0, 1) := dk_42 (dk_at dksX2_likens_3 23 rfl rfl)
theorem dX2_likens_96 : decode cX2_likens 96 = .ok (.getfield 19, 3) := dk_180 0 19 (dk_at dksX2_likens_4 0 rfl rfl)
theorem dX2_likens_99 : decode cX2_likens 99 = .ok (.invokestatic 79, 3) := dk_184 0 79 (dk_at dksX2_likens_4 3 rfl rfl)
theorem dX2_likens_102 : decode cX2_likens 102 = .ok (.aload_n 1, 1) := dk_43 (dk_at dksX2_likens_4 6 rfl rfl)
theorem dX2_likens_103 : decode cX2_likens 103 = .ok (.getfield 22, 3) := dk_180 0 22 (dk_at dksX2_likens_4 7 rfl rfl)
theorem dX2_likens_106 : decode cX2_likens 106 = .ok (.aload_n 0, 1) := dk_42 (dk_at dksX2_likens_4 10 rfl rfl)
theorem dX2_likens_107 : decode cX2_likens 107 = .ok (.getfield 22, 3) := dk_180 0 22 (dk_at dksX2_likens_4 11 rfl rfl)
theorem dX2_likens_110 : decode cX2_likens 110 = .ok (.invokestatic 79, 3) := dk_184 0 79 (dk_at dksX2_likens_4 14 rfl rfl)
theorem dX2_likens_113 : decode cX2_likens 113 = .ok (.aload_n 1, 1) := dk_43 (dk_at dksX2_likens_4 17 rfl rfl)
theorem dX2_likens_114 : decode cX2_likens 114 = .ok (.getfield 25, 3) := dk_180 0 25 (dk_at dksX2_likens_4 18 rfl rfl)
theorem dX2_likens_117 : decode cX2_likens 117 = .ok (.aload_n 0, 1) := dk_42 (dk_at dksX2_likens_4 21 rfl rfl)
theorem dX2_likens_118 : decode cX2_likens 118 = .ok (.getfield 25, 3) := dk_180 0 25 (dk_at dksX2_likens_5 0 rfl rfl)
theorem dX2_likens_121 : decode cX2_likens 121 = .ok (.invokestatic 79, 3) := dk_184 0 79 (dk_at dksX2_likens_5 3 rfl rfl)
theorem dX2_likens_124 : decode cX2_likens 124 = .ok (.aload_n 1, 1) := dk_43 (dk_at dksX2_likens_5 6 rfl rfl)
theorem dX2_likens_125 : decode cX2_likens 125 = .ok (.getfield 28, 3) := dk_180 0 28 (dk_at dksX2_likens_5 7 rfl rfl)
theorem dX2_likens_128 : decode cX2_likens 128 = .ok (.aload_n 0, 1) := dk_42 (dk_at dksX2_likens_5 10 rfl rfl)
theorem dX2_likens_129 : decode cX2_likens 129 = .ok (.getfield 28, 3) := dk_180 0 28 (dk_at dksX2_likens_5 11 rfl rfl)
theorem dX2_likens_132 : decode cX2_likens 132 = .ok (.invokestatic 79, 3) := dk_184 0 79 (dk_at dksX2_likens_5 14 rfl rfl)
theorem dX2_likens_135 : decode cX2_likens 135 = .ok (.aload_n 1, 1) := dk_43 (dk_at dksX2_likens_5 17 rfl rfl)
theorem dX2_likens_136 : decode cX2_likens 136 = .ok (.getfield 31, 3) := dk_180 0 31 (dk_at dksX2_likens_5 18 rfl rfl)
theorem dX2_likens_139 : decode cX2_likens 139 = .ok (.aload_n 0, 1) := dk_42 (dk_at dksX2_likens_5 21 rfl rfl)
theorem dX2_likens_140 : decode cX2_likens 140 = .ok (.getfield 31, 3) := dk_180 0 31 (dk_at dksX2_likens_6 0 rfl rfl)
theorem dX2_likens_143 : decode cX2_likens 143 = .ok (.invokestatic 79, 3) := dk_184 0 79 (dk_at dksX2_likens_6 3 rfl rfl)
theorem dX2_likens_146 : decode cX2_likens 146 = .ok (.aload_n 1, 1) := dk_43 (dk_at dksX2_likens_6 6 rfl rfl)
theorem dX2_likens_147 : decode cX2_likens 147 = .ok (.getfield 34, 3) := dk_180 0 34 (dk_at dksX2_likens_6 7 rfl rfl)
theorem dX2_likens_150 : decode cX2_likens 150 = .ok (.aload_n 0, 1) := dk_42 (dk_at dksX2_likens_6 10 rfl rfl)
theorem dX2_likens_151 : decode cX2_likens 151 = .ok (.getfield 34, 3) := dk_180 0 34 (dk_at dksX2_likens_6 11 rfl rfl)
theorem dX2_likens_154 : decode cX2_likens 154 = .ok (.invokestatic 79, 3) := dk_184 0 79 (dk_at dksX2_likens_6 14 rfl rfl)
theorem dX2_likens_157 : decode cX2_likens 157 = .ok (.iconst 0, 1) := dk_3 (dk_at dksX2_likens_6 17 rfl rfl)
theorem dX2_likens_158 : decode cX2_likens 158 = .ok (.istore_n 2, 1) := dk_61 (dk_at dksX2_likens_6 18 rfl rfl)
theorem dX2_likens_159 : decode cX2_likens 159 = .ok (.iload_n 2, 1) := dk_28 (dk_at dksX2_likens_6 19 rfl rfl)
theorem dX2_likens_160 : decode cX2_likens 160 = .ok (.bipush 8, 2) := dk_16 8 (dk_at dksX2_likens_6 20 rfl rfl)
theorem dX2_likens_162 : decode cX2_likens 162 = .ok (.if_icmp .ge 54, 3) := dk_162 0 54 (dk_at dksX2_likens_7 0 rfl rfl)
theorem dX2_likens_165 : decode cX2_likens 165 = .ok (.aload_n 1, 1) := dk_43 (dk_at dksX2_likens_7 3 rfl rfl)
theorem dX2_likens_166 : decode cX2_likens 166 = .ok (.getfield 39, 3) := dk_180 0 39 (dk_at dksX2_likens_7 4 rfl rfl)
theorem dX2_likens_169 : decode cX2_likens 169 = .ok (.iload_n 2, 1) := dk_28 (dk_at dksX2_likens_7 7 rfl rfl)
theorem dX2_likens_170 : decode cX2_likens 170 = .ok (.aaload, 1) := dk_50 (dk_at dksX2_likens_7 8 rfl rfl)
theorem dX2_likens_171 : decode cX2_likens 171 = .ok (.aload_n 0, 1) := dk_42 (dk_at dksX2_likens_7 9 rfl rfl)
theorem dX2_likens_172 : decode cX2_likens 172 = .ok (.getfield 39, 3) := dk_180 0 39 (dk_at dksX2_likens_7 10 rfl rfl)
theorem dX2_likens_175 : decode cX2_likens 175 = .ok (.iload_n 2, 1) := dk_28 (dk_at dksX2_likens_7 13 rfl rfl)
theorem dX2_likens_176 : decode cX2_likens 176 = .ok (.aaload, 1) := dk_50 (dk_at dksX2_likens_7 14 rfl rfl)
theorem dX2_likens_177 : decode cX2_likens 177 = .ok (.invokestatic 79, 3) := dk_184 0 79 (dk_at dksX2_likens_7 15 rfl rfl)
theorem dX2_likens_180 : decode cX2_likens 180 = .ok (.aload_n 1, 1) := dk_43 (dk_at dksX2_likens_7 18 rfl rfl)
theorem dX2_likens_181 : decode cX2_likens 181 = .ok (.getfield 42, 3) := dk_180 0 42 (dk_at dksX2_likens_7 19 rfl rfl)
theorem dX2_likens_184 : decode cX2_likens 184 = .ok (.iload_n 2, 1) := dk_28 (dk_at dksX2_likens_7 22 rfl rfl)
theorem dX2_likens_185 : decode cX2_likens 185 = .ok (.aaload, 1) := dk_50 (dk_at dksX2_likens_7 23 rfl rfl)
theorem dX2_likens_186 : decode cX2_likens 186 = .ok (.aload_n 0, 1) := dk_42 (dk_at dksX2_likens_8 0 rfl rfl)
theorem dX2_likens_187 : decode cX2_likens 187 = .ok (.getfield 42, 3) := dk_180 0 42 (dk_at dksX2_likens_8 1 rfl rfl)
theorem dX2_likens_190 : decode cX2_likens 190 = .ok (.iload_n 2, 1) := dk_28 (dk_at dksX2_likens_8 4 rfl rfl)
theorem dX2_likens_191 : decode cX2_likens 191 = .ok (.aaload, 1) := dk_50 (dk_at dksX2_likens_8 5 rfl rfl)
theorem dX2_likens_192 : decode cX2_likens 192 = .ok (.invokestatic 79, 3) := dk_184 0 79 (dk_at dksX2_likens_8 6 rfl rfl)
theorem dX2_likens_195 : decode cX2_likens 195 = .ok (.aload_n 1, 1) := dk_43 (dk_at dksX2_likens_8 9 rfl rfl)
theorem dX2_likens_196 : decode cX2_likens 196 = .ok (.getfield 45, 3) := dk_180 0 45 (dk_at dksX2_likens_8 10 rfl rfl)
theorem dX2_likens_199 : decode cX2_likens 199 = .ok (.iload_n 2, 1) := dk_28 (dk_at dksX2_likens_8 13 rfl rfl)
theorem dX2_likens_200 : decode cX2_likens 200 = .ok (.aaload, 1) := dk_50 (dk_at dksX2_likens_8 14 rfl rfl)
theorem dX2_likens_201 : decode cX2_likens 201 = .ok (.aload_n 0, 1) := dk_42 (dk_at dksX2_likens_8 15 rfl rfl)
theorem dX2_likens_202 : decode cX2_likens 202 = .ok (.getfield 45, 3) := dk_180 0 45 (dk_at dksX2_likens_8 16 rfl rfl)
theorem dX2_likens_205 : decode cX2_likens 205 = .ok (.iload_n 2, 1) := dk_28 (dk_at dksX2_likens_8 19 rfl rfl)
theorem dX2_likens_206 : decode cX2_likens 206 = .ok (.aaload, 1) := dk_50 (dk_at dksX2_likens_8 20 rfl rfl)
theorem dX2_likens_207 : decode cX2_likens 207 = .ok (.invokestatic 79, 3) := dk_184 0 79 (dk_at dksX2_likens_8 21 rfl rfl)
theorem dX2_likens_210 : decode cX2_likens 210 = .ok (.iinc 2 1, 3) := dk_132 2 1 (dk_at dksX2_likens_9 0 rfl rfl)
theorem dX2_likens_213 : decode cX2_likens 213 = .ok (.goto (-54), 3) := dk_167 255 202 (dk_at dksX2_likens_9 3 rfl rfl)
theorem dX2_likens_216 : decode cX2_likens 216 = .ok (.aload_n 1, 1) := dk_43 (dk_at dksX2_likens_9 6 rfl rfl)
theorem dX2_likens_217 : decode cX2_likens 217 = .ok (.getfield 48, 3) := dk_180 0 48 (dk_at dksX2_likens_9 7 rfl rfl)
theorem dX2_likens_220 : decode cX2_likens 220 = .ok (.aload_n 0, 1) := dk_42 (dk_at dksX2_likens_9 10 rfl rfl)
theorem dX2_likens_221 : decode cX2_likens 221 = .ok (.getfield 48, 3) := dk_180 0 48 (dk_at dksX2_likens_9 11 rfl rfl)
theorem dX2_likens_224 : decode cX2_likens 224 = .ok (.invokestatic 79, 3) := dk_184 0 79 (dk_at dksX2_likens_9 14 rfl rfl)
theorem dX2_likens_227 : decode cX2_likens 227 = .ok (.aload_n 0, 1) := dk_42 (dk_at dksX2_likens_9 17 rfl rfl)
theorem dX2_likens_228 : decode cX2_likens 228 = .ok (.iconst 0, 1) := dk_3 (dk_at dksX2_likens_9 18 rfl rfl)
theorem dX2_likens_229 : decode cX2_likens 229 = .ok (.putfield 83, 3) := dk_181 0 83 (dk_at dksX2_likens_9 19 rfl rfl)
theorem dX2_likens_232 : decode cX2_likens 232 = .ok (.aload_n 0, 1) := dk_42 (dk_at dksX2_likens_9 22 rfl rfl)
theorem dX2_likens_233 : decode cX2_likens 233 = .ok (.areturn, 1) := dk_176 (dk_at dksX2_likens_9 23 rfl rfl)
abbrev cX2_row : ByteArray := prog_16_method_3_code
def yX2_row : MethodName := ⟨RX2, "row", "([I[I)V"⟩
def dkwX2_row_0 : List UInt8 := [42, 3, 43, 3, 43, 190, 184, 0, 86, 177]
abbrev dktX2_row_0 : List UInt8 := dkwX2_row_0 ++ []
theorem dksX2_row_0 : cX2_row.data.toList.drop 0 = dktX2_row_0 := by decide +kernel
theorem dX2_row_0 : decode cX2_row 0 = .ok (.aload_n 0, 1) := dk_42 (dk_at dksX2_row_0 0 rfl rfl)
theorem dX2_row_1 : decode cX2_row 1 = .ok (.iconst 0, 1) := dk_3 (dk_at dksX2_row_0 1 rfl rfl)
theorem dX2_row_2 : decode cX2_row 2 = .ok (.aload_n 1, 1) := dk_43 (dk_at dksX2_row_0 2 rfl rfl)
theorem dX2_row_3 : decode cX2_row 3 = .ok (.iconst 0, 1) := dk_3 (dk_at dksX2_row_0 3 rfl rfl)
theorem dX2_row_4 : decode cX2_row 4 = .ok (.aload_n 1, 1) := dk_43 (dk_at dksX2_row_0 4 rfl rfl)
theorem dX2_row_5 : decode cX2_row 5 = .ok (.arraylength, 1) := dk_190 (dk_at dksX2_row_0 5 rfl rfl)
theorem dX2_row_6 : decode cX2_row 6 = .ok (.invokestatic 86, 3) := dk_184 0 86 (dk_at dksX2_row_0 6 rfl rfl)
theorem dX2_row_9 : decode cX2_row 9 = .ok (.return_, 1) := dk_177 (dk_at dksX2_row_0 9 rfl rfl)
abbrev cX2_bookings : ByteArray := prog_16_method_11_code
def yX2_bookings : MethodName := ⟨RX2, "bookings", "()I"⟩
def dkwX2_bookings_2 : List UInt8 := [132, 2, 1, 167, 255, 211, 27, 172]
abbrev dktX2_bookings_2 : List UInt8 := dkwX2_bookings_2 ++ []
def dkwX2_bookings_1 : List UInt8 := [180, 0, 45, 28, 50, 29, 46, 2, 160, 0, 7, 3, 167, 0, 4, 4, 96, 60, 132, 3, 1, 167, 255, 227]
abbrev dktX2_bookings_1 : List UInt8 := dkwX2_bookings_1 ++ dktX2_bookings_2
def dkwX2_bookings_0 : List UInt8 := [3, 60, 3, 61, 28, 42, 180, 0, 54, 162, 0, 43, 3, 62, 29, 16, 8, 162, 0, 29, 27, 42]
abbrev dktX2_bookings_0 : List UInt8 := dkwX2_bookings_0 ++ dktX2_bookings_1
theorem dksX2_bookings_0 : cX2_bookings.data.toList.drop 0 = dktX2_bookings_0 := by decide +kernel
theorem dksX2_bookings_1 : cX2_bookings.data.toList.drop 22 = dktX2_bookings_1 := dk_seg dksX2_bookings_0 22 rfl rfl
theorem dksX2_bookings_2 : cX2_bookings.data.toList.drop 46 = dktX2_bookings_2 := dk_seg dksX2_bookings_1 24 rfl rfl
theorem dX2_bookings_0 : decode cX2_bookings 0 = .ok (.iconst 0, 1) := dk_3 (dk_at dksX2_bookings_0 0 rfl rfl)
theorem dX2_bookings_1 : decode cX2_bookings 1 = .ok (.istore_n 1, 1) := dk_60 (dk_at dksX2_bookings_0 1 rfl rfl)
theorem dX2_bookings_2 : decode cX2_bookings 2 = .ok (.iconst 0, 1) := dk_3 (dk_at dksX2_bookings_0 2 rfl rfl)
theorem dX2_bookings_3 : decode cX2_bookings 3 = .ok (.istore_n 2, 1) := dk_61 (dk_at dksX2_bookings_0 3 rfl rfl)
theorem dX2_bookings_4 : decode cX2_bookings 4 = .ok (.iload_n 2, 1) := dk_28 (dk_at dksX2_bookings_0 4 rfl rfl)
theorem dX2_bookings_5 : decode cX2_bookings 5 = .ok (.aload_n 0, 1) := dk_42 (dk_at dksX2_bookings_0 5 rfl rfl)
theorem dX2_bookings_6 : decode cX2_bookings 6 = .ok (.getfield 54, 3) := dk_180 0 54 (dk_at dksX2_bookings_0 6 rfl rfl)
theorem dX2_bookings_9 : decode cX2_bookings 9 = .ok (.if_icmp .ge 43, 3) := dk_162 0 43 (dk_at dksX2_bookings_0 9 rfl rfl)
theorem dX2_bookings_12 : decode cX2_bookings 12 = .ok (.iconst 0, 1) := dk_3 (dk_at dksX2_bookings_0 12 rfl rfl)
theorem dX2_bookings_13 : decode cX2_bookings 13 = .ok (.istore_n 3, 1) := dk_62 (dk_at dksX2_bookings_0 13 rfl rfl)
theorem dX2_bookings_14 : decode cX2_bookings 14 = .ok (.iload_n 3, 1) := dk_29 (dk_at dksX2_bookings_0 14 rfl rfl)
theorem dX2_bookings_15 : decode cX2_bookings 15 = .ok (.bipush 8, 2) := dk_16 8 (dk_at dksX2_bookings_0 15 rfl rfl)
theorem dX2_bookings_17 : decode cX2_bookings 17 = .ok (.if_icmp .ge 29, 3) := dk_162 0 29 (dk_at dksX2_bookings_0 17 rfl rfl)
theorem dX2_bookings_20 : decode cX2_bookings 20 = .ok (.iload_n 1, 1) := dk_27 (dk_at dksX2_bookings_0 20 rfl rfl)
theorem dX2_bookings_21 : decode cX2_bookings 21 = .ok (.aload_n 0, 1) := dk_42 (dk_at dksX2_bookings_0 21 rfl rfl)
theorem dX2_bookings_22 : decode cX2_bookings 22 = .ok (.getfield 45, 3) := dk_180 0 45 (dk_at dksX2_bookings_1 0 rfl rfl)
theorem dX2_bookings_25 : decode cX2_bookings 25 = .ok (.iload_n 2, 1) := dk_28 (dk_at dksX2_bookings_1 3 rfl rfl)
theorem dX2_bookings_26 : decode cX2_bookings 26 = .ok (.aaload, 1) := dk_50 (dk_at dksX2_bookings_1 4 rfl rfl)
theorem dX2_bookings_27 : decode cX2_bookings 27 = .ok (.iload_n 3, 1) := dk_29 (dk_at dksX2_bookings_1 5 rfl rfl)
theorem dX2_bookings_28 : decode cX2_bookings 28 = .ok (.iaload, 1) := dk_46 (dk_at dksX2_bookings_1 6 rfl rfl)
theorem dX2_bookings_29 : decode cX2_bookings 29 = .ok (.iconst (-1), 1) := dk_2 (dk_at dksX2_bookings_1 7 rfl rfl)
theorem dX2_bookings_30 : decode cX2_bookings 30 = .ok (.if_icmp .ne 7, 3) := dk_160 0 7 (dk_at dksX2_bookings_1 8 rfl rfl)
theorem dX2_bookings_33 : decode cX2_bookings 33 = .ok (.iconst 0, 1) := dk_3 (dk_at dksX2_bookings_1 11 rfl rfl)
theorem dX2_bookings_34 : decode cX2_bookings 34 = .ok (.goto 4, 3) := dk_167 0 4 (dk_at dksX2_bookings_1 12 rfl rfl)
theorem dX2_bookings_37 : decode cX2_bookings 37 = .ok (.iconst 1, 1) := dk_4 (dk_at dksX2_bookings_1 15 rfl rfl)
theorem dX2_bookings_38 : decode cX2_bookings 38 = .ok (.iadd, 1) := dk_96 (dk_at dksX2_bookings_1 16 rfl rfl)
theorem dX2_bookings_39 : decode cX2_bookings 39 = .ok (.istore_n 1, 1) := dk_60 (dk_at dksX2_bookings_1 17 rfl rfl)
theorem dX2_bookings_40 : decode cX2_bookings 40 = .ok (.iinc 3 1, 3) := dk_132 3 1 (dk_at dksX2_bookings_1 18 rfl rfl)
theorem dX2_bookings_43 : decode cX2_bookings 43 = .ok (.goto (-29), 3) := dk_167 255 227 (dk_at dksX2_bookings_1 21 rfl rfl)
theorem dX2_bookings_46 : decode cX2_bookings 46 = .ok (.iinc 2 1, 3) := dk_132 2 1 (dk_at dksX2_bookings_2 0 rfl rfl)
theorem dX2_bookings_49 : decode cX2_bookings 49 = .ok (.goto (-45), 3) := dk_167 255 211 (dk_at dksX2_bookings_2 3 rfl rfl)
theorem dX2_bookings_52 : decode cX2_bookings 52 = .ok (.iload_n 1, 1) := dk_27 (dk_at dksX2_bookings_2 6 rfl rfl)
theorem dX2_bookings_53 : decode cX2_bookings 53 = .ok (.ireturn, 1) := dk_172 (dk_at dksX2_bookings_2 7 rfl rfl)
abbrev cX2_gladness : ByteArray := prog_16_method_16_code
def yX2_gladness : MethodName := ⟨RX2, "gladness", "()I"⟩
def dkwX2_gladness_1 : List UInt8 := [167, 255, 236, 27, 172]
abbrev dktX2_gladness_1 : List UInt8 := dkwX2_gladness_1 ++ []
def dkwX2_gladness_0 : List UInt8 := [3, 60, 3, 61, 28, 42, 180, 0, 54, 162, 0, 18, 27, 42, 180, 0, 22, 28, 46, 96, 60, 132, 2, 1]
abbrev dktX2_gladness_0 : List UInt8 := dkwX2_gladness_0 ++ dktX2_gladness_1
theorem dksX2_gladness_0 : cX2_gladness.data.toList.drop 0 = dktX2_gladness_0 := by decide +kernel
theorem dksX2_gladness_1 : cX2_gladness.data.toList.drop 24 = dktX2_gladness_1 := dk_seg dksX2_gladness_0 24 rfl rfl
theorem dX2_gladness_0 : decode cX2_gladness 0 = .ok (.iconst 0, 1) := dk_3 (dk_at dksX2_gladness_0 0 rfl rfl)
theorem dX2_gladness_1 : decode cX2_gladness 1 = .ok (.istore_n 1, 1) := dk_60 (dk_at dksX2_gladness_0 1 rfl rfl)
theorem dX2_gladness_2 : decode cX2_gladness 2 = .ok (.iconst 0, 1) := dk_3 (dk_at dksX2_gladness_0 2 rfl rfl)
theorem dX2_gladness_3 : decode cX2_gladness 3 = .ok (.istore_n 2, 1) := dk_61 (dk_at dksX2_gladness_0 3 rfl rfl)
theorem dX2_gladness_4 : decode cX2_gladness 4 = .ok (.iload_n 2, 1) := dk_28 (dk_at dksX2_gladness_0 4 rfl rfl)
theorem dX2_gladness_5 : decode cX2_gladness 5 = .ok (.aload_n 0, 1) := dk_42 (dk_at dksX2_gladness_0 5 rfl rfl)
theorem dX2_gladness_6 : decode cX2_gladness 6 = .ok (.getfield 54, 3) := dk_180 0 54 (dk_at dksX2_gladness_0 6 rfl rfl)
theorem dX2_gladness_9 : decode cX2_gladness 9 = .ok (.if_icmp .ge 18, 3) := dk_162 0 18 (dk_at dksX2_gladness_0 9 rfl rfl)
theorem dX2_gladness_12 : decode cX2_gladness 12 = .ok (.iload_n 1, 1) := dk_27 (dk_at dksX2_gladness_0 12 rfl rfl)
theorem dX2_gladness_13 : decode cX2_gladness 13 = .ok (.aload_n 0, 1) := dk_42 (dk_at dksX2_gladness_0 13 rfl rfl)
theorem dX2_gladness_14 : decode cX2_gladness 14 = .ok (.getfield 22, 3) := dk_180 0 22 (dk_at dksX2_gladness_0 14 rfl rfl)
theorem dX2_gladness_17 : decode cX2_gladness 17 = .ok (.iload_n 2, 1) := dk_28 (dk_at dksX2_gladness_0 17 rfl rfl)
theorem dX2_gladness_18 : decode cX2_gladness 18 = .ok (.iaload, 1) := dk_46 (dk_at dksX2_gladness_0 18 rfl rfl)
theorem dX2_gladness_19 : decode cX2_gladness 19 = .ok (.iadd, 1) := dk_96 (dk_at dksX2_gladness_0 19 rfl rfl)
theorem dX2_gladness_20 : decode cX2_gladness 20 = .ok (.istore_n 1, 1) := dk_60 (dk_at dksX2_gladness_0 20 rfl rfl)
theorem dX2_gladness_21 : decode cX2_gladness 21 = .ok (.iinc 2 1, 3) := dk_132 2 1 (dk_at dksX2_gladness_0 21 rfl rfl)
theorem dX2_gladness_24 : decode cX2_gladness 24 = .ok (.goto (-20), 3) := dk_167 255 236 (dk_at dksX2_gladness_1 0 rfl rfl)
theorem dX2_gladness_27 : decode cX2_gladness 27 = .ok (.iload_n 1, 1) := dk_27 (dk_at dksX2_gladness_1 3 rfl rfl)
theorem dX2_gladness_28 : decode cX2_gladness 28 = .ok (.ireturn, 1) := dk_172 (dk_at dksX2_gladness_1 4 rfl rfl)
abbrev cX2_strikes : ByteArray := prog_16_method_13_code
def yX2_strikes : MethodName := ⟨RX2, "strikes", "(I)V"⟩
def dkwX2_strikes_0 : List UInt8 := [42, 180, 0, 45, 27, 50, 2, 184, 0, 106, 177]
abbrev dktX2_strikes_0 : List UInt8 := dkwX2_strikes_0 ++ []
theorem dksX2_strikes_0 : cX2_strikes.data.toList.drop 0 = dktX2_strikes_0 := by decide +kernel
theorem dX2_strikes_0 : decode cX2_strikes 0 = .ok (.aload_n 0, 1) := dk_42 (dk_at dksX2_strikes_0 0 rfl rfl)
theorem dX2_strikes_1 : decode cX2_strikes 1 = .ok (.getfield 45, 3) := dk_180 0 45 (dk_at dksX2_strikes_0 1 rfl rfl)
theorem dX2_strikes_4 : decode cX2_strikes 4 = .ok (.iload_n 1, 1) := dk_27 (dk_at dksX2_strikes_0 4 rfl rfl)
theorem dX2_strikes_5 : decode cX2_strikes 5 = .ok (.aaload, 1) := dk_50 (dk_at dksX2_strikes_0 5 rfl rfl)
theorem dX2_strikes_6 : decode cX2_strikes 6 = .ok (.iconst (-1), 1) := dk_2 (dk_at dksX2_strikes_0 6 rfl rfl)
theorem dX2_strikes_7 : decode cX2_strikes 7 = .ok (.invokestatic 106, 3) := dk_184 0 106 (dk_at dksX2_strikes_0 7 rfl rfl)
theorem dX2_strikes_10 : decode cX2_strikes 10 = .ok (.return_, 1) := dk_177 (dk_at dksX2_strikes_0 10 rfl rfl)
abbrev cX2_free : ByteArray := prog_16_method_10_code
def yX2_free : MethodName := ⟨RX2, "free", "(I)I"⟩
def dkwX2_free_1 : List UInt8 := [2, 160, 0, 7, 2, 167, 0, 8, 4, 29, 120, 2, 130, 126, 61, 132, 3, 1, 167, 255, 223, 28, 172]
abbrev dktX2_free_1 : List UInt8 := dkwX2_free_1 ++ []
def dkwX2_free_0 : List UInt8 := [42, 180, 0, 19, 27, 46, 61, 3, 62, 29, 16, 8, 162, 0, 33, 28, 42, 180, 0, 45, 27, 50, 29, 46]
abbrev dktX2_free_0 : List UInt8 := dkwX2_free_0 ++ dktX2_free_1
theorem dksX2_free_0 : cX2_free.data.toList.drop 0 = dktX2_free_0 := by decide +kernel
theorem dksX2_free_1 : cX2_free.data.toList.drop 24 = dktX2_free_1 := dk_seg dksX2_free_0 24 rfl rfl
theorem dX2_free_0 : decode cX2_free 0 = .ok (.aload_n 0, 1) := dk_42 (dk_at dksX2_free_0 0 rfl rfl)
theorem dX2_free_1 : decode cX2_free 1 = .ok (.getfield 19, 3) := dk_180 0 19 (dk_at dksX2_free_0 1 rfl rfl)
theorem dX2_free_4 : decode cX2_free 4 = .ok (.iload_n 1, 1) := dk_27 (dk_at dksX2_free_0 4 rfl rfl)
theorem dX2_free_5 : decode cX2_free 5 = .ok (.iaload, 1) := dk_46 (dk_at dksX2_free_0 5 rfl rfl)
theorem dX2_free_6 : decode cX2_free 6 = .ok (.istore_n 2, 1) := dk_61 (dk_at dksX2_free_0 6 rfl rfl)
theorem dX2_free_7 : decode cX2_free 7 = .ok (.iconst 0, 1) := dk_3 (dk_at dksX2_free_0 7 rfl rfl)
theorem dX2_free_8 : decode cX2_free 8 = .ok (.istore_n 3, 1) := dk_62 (dk_at dksX2_free_0 8 rfl rfl)
theorem dX2_free_9 : decode cX2_free 9 = .ok (.iload_n 3, 1) := dk_29 (dk_at dksX2_free_0 9 rfl rfl)
theorem dX2_free_10 : decode cX2_free 10 = .ok (.bipush 8, 2) := dk_16 8 (dk_at dksX2_free_0 10 rfl rfl)
theorem dX2_free_12 : decode cX2_free 12 = .ok (.if_icmp .ge 33, 3) := dk_162 0 33 (dk_at dksX2_free_0 12 rfl rfl)
theorem dX2_free_15 : decode cX2_free 15 = .ok (.iload_n 2, 1) := dk_28 (dk_at dksX2_free_0 15 rfl rfl)
theorem dX2_free_16 : decode cX2_free 16 = .ok (.aload_n 0, 1) := dk_42 (dk_at dksX2_free_0 16 rfl rfl)
theorem dX2_free_17 : decode cX2_free 17 = .ok (.getfield 45, 3) := dk_180 0 45 (dk_at dksX2_free_0 17 rfl rfl)
theorem dX2_free_20 : decode cX2_free 20 = .ok (.iload_n 1, 1) := dk_27 (dk_at dksX2_free_0 20 rfl rfl)
theorem dX2_free_21 : decode cX2_free 21 = .ok (.aaload, 1) := dk_50 (dk_at dksX2_free_0 21 rfl rfl)
theorem dX2_free_22 : decode cX2_free 22 = .ok (.iload_n 3, 1) := dk_29 (dk_at dksX2_free_0 22 rfl rfl)
theorem dX2_free_23 : decode cX2_free 23 = .ok (.iaload, 1) := dk_46 (dk_at dksX2_free_0 23 rfl rfl)
theorem dX2_free_24 : decode cX2_free 24 = .ok (.iconst (-1), 1) := dk_2 (dk_at dksX2_free_1 0 rfl rfl)
theorem dX2_free_25 : decode cX2_free 25 = .ok (.if_icmp .ne 7, 3) := dk_160 0 7 (dk_at dksX2_free_1 1 rfl rfl)
theorem dX2_free_28 : decode cX2_free 28 = .ok (.iconst (-1), 1) := dk_2 (dk_at dksX2_free_1 4 rfl rfl)
theorem dX2_free_29 : decode cX2_free 29 = .ok (.goto 8, 3) := dk_167 0 8 (dk_at dksX2_free_1 5 rfl rfl)
theorem dX2_free_32 : decode cX2_free 32 = .ok (.iconst 1, 1) := dk_4 (dk_at dksX2_free_1 8 rfl rfl)
theorem dX2_free_33 : decode cX2_free 33 = .ok (.iload_n 3, 1) := dk_29 (dk_at dksX2_free_1 9 rfl rfl)
theorem dX2_free_34 : decode cX2_free 34 = .ok (.ishl, 1) := dk_120 (dk_at dksX2_free_1 10 rfl rfl)
theorem dX2_free_35 : decode cX2_free 35 = .ok (.iconst (-1), 1) := dk_2 (dk_at dksX2_free_1 11 rfl rfl)
theorem dX2_free_36 : decode cX2_free 36 = .ok (.ixor, 1) := dk_130 (dk_at dksX2_free_1 12 rfl rfl)
theorem dX2_free_37 : decode cX2_free 37 = .ok (.iand, 1) := dk_126 (dk_at dksX2_free_1 13 rfl rfl)
theorem dX2_free_38 : decode cX2_free 38 = .ok (.istore_n 2, 1) := dk_61 (dk_at dksX2_free_1 14 rfl rfl)
theorem dX2_free_39 : decode cX2_free 39 = .ok (.iinc 3 1, 3) := dk_132 3 1 (dk_at dksX2_free_1 15 rfl rfl)
theorem dX2_free_42 : decode cX2_free 42 = .ok (.goto (-33), 3) := dk_167 255 223 (dk_at dksX2_free_1 18 rfl rfl)
theorem dX2_free_45 : decode cX2_free 45 = .ok (.iload_n 2, 1) := dk_28 (dk_at dksX2_free_1 21 rfl rfl)
theorem dX2_free_46 : decode cX2_free 46 = .ok (.ireturn, 1) := dk_172 (dk_at dksX2_free_1 22 rfl rfl)
abbrev cX2_busy : ByteArray := prog_16_method_8_code
def yX2_busy : MethodName := ⟨RX2, "busy", "(I)I"⟩
def dkwX2_busy_2 : List UInt8 := [132, 4, 1, 167, 255, 222, 132, 3, 1, 167, 255, 205, 28, 172]
abbrev dktX2_busy_2 : List UInt8 := dkwX2_busy_2 ++ []
def dkwX2_busy_1 : List UInt8 := [180, 0, 45, 29, 50, 21, 4, 46, 27, 160, 0, 10, 4, 21, 4, 120, 167, 0, 4, 3, 128, 61]
abbrev dktX2_busy_1 : List UInt8 := dkwX2_busy_1 ++ dktX2_busy_2
def dkwX2_busy_0 : List UInt8 := [3, 61, 3, 62, 29, 42, 180, 0, 54, 162, 0, 49, 3, 54, 4, 21, 4, 16, 8, 162, 0, 33, 28, 42]
abbrev dktX2_busy_0 : List UInt8 := dkwX2_busy_0 ++ dktX2_busy_1
theorem dksX2_busy_0 : cX2_busy.data.toList.drop 0 = dktX2_busy_0 := by decide +kernel
theorem dksX2_busy_1 : cX2_busy.data.toList.drop 24 = dktX2_busy_1 := dk_seg dksX2_busy_0 24 rfl rfl
theorem dksX2_busy_2 : cX2_busy.data.toList.drop 46 = dktX2_busy_2 := dk_seg dksX2_busy_1 22 rfl rfl
theorem dX2_busy_0 : decode cX2_busy 0 = .ok (.iconst 0, 1) := dk_3 (dk_at dksX2_busy_0 0 rfl rfl)
theorem dX2_busy_1 : decode cX2_busy 1 = .ok (.istore_n 2, 1) := dk_61 (dk_at dksX2_busy_0 1 rfl rfl)
theorem dX2_busy_2 : decode cX2_busy 2 = .ok (.iconst 0, 1) := dk_3 (dk_at dksX2_busy_0 2 rfl rfl)
theorem dX2_busy_3 : decode cX2_busy 3 = .ok (.istore_n 3, 1) := dk_62 (dk_at dksX2_busy_0 3 rfl rfl)
theorem dX2_busy_4 : decode cX2_busy 4 = .ok (.iload_n 3, 1) := dk_29 (dk_at dksX2_busy_0 4 rfl rfl)
theorem dX2_busy_5 : decode cX2_busy 5 = .ok (.aload_n 0, 1) := dk_42 (dk_at dksX2_busy_0 5 rfl rfl)
theorem dX2_busy_6 : decode cX2_busy 6 = .ok (.getfield 54, 3) := dk_180 0 54 (dk_at dksX2_busy_0 6 rfl rfl)
theorem dX2_busy_9 : decode cX2_busy 9 = .ok (.if_icmp .ge 49, 3) := dk_162 0 49 (dk_at dksX2_busy_0 9 rfl rfl)
theorem dX2_busy_12 : decode cX2_busy 12 = .ok (.iconst 0, 1) := dk_3 (dk_at dksX2_busy_0 12 rfl rfl)
theorem dX2_busy_13 : decode cX2_busy 13 = .ok (.istore 4, 2) := dk_54 4 (dk_at dksX2_busy_0 13 rfl rfl)
theorem dX2_busy_15 : decode cX2_busy 15 = .ok (.iload 4, 2) := dk_21 4 (dk_at dksX2_busy_0 15 rfl rfl)
theorem dX2_busy_17 : decode cX2_busy 17 = .ok (.bipush 8, 2) := dk_16 8 (dk_at dksX2_busy_0 17 rfl rfl)
theorem dX2_busy_19 : decode cX2_busy 19 = .ok (.if_icmp .ge 33, 3) := dk_162 0 33 (dk_at dksX2_busy_0 19 rfl rfl)
theorem dX2_busy_22 : decode cX2_busy 22 = .ok (.iload_n 2, 1) := dk_28 (dk_at dksX2_busy_0 22 rfl rfl)
theorem dX2_busy_23 : decode cX2_busy 23 = .ok (.aload_n 0, 1) := dk_42 (dk_at dksX2_busy_0 23 rfl rfl)
theorem dX2_busy_24 : decode cX2_busy 24 = .ok (.getfield 45, 3) := dk_180 0 45 (dk_at dksX2_busy_1 0 rfl rfl)
theorem dX2_busy_27 : decode cX2_busy 27 = .ok (.iload_n 3, 1) := dk_29 (dk_at dksX2_busy_1 3 rfl rfl)
theorem dX2_busy_28 : decode cX2_busy 28 = .ok (.aaload, 1) := dk_50 (dk_at dksX2_busy_1 4 rfl rfl)
theorem dX2_busy_29 : decode cX2_busy 29 = .ok (.iload 4, 2) := dk_21 4 (dk_at dksX2_busy_1 5 rfl rfl)
theorem dX2_busy_31 : decode cX2_busy 31 = .ok (.iaload, 1) := dk_46 (dk_at dksX2_busy_1 7 rfl rfl)
theorem dX2_busy_32 : decode cX2_busy 32 = .ok (.iload_n 1, 1) := dk_27 (dk_at dksX2_busy_1 8 rfl rfl)
theorem dX2_busy_33 : decode cX2_busy 33 = .ok (.if_icmp .ne 10, 3) := dk_160 0 10 (dk_at dksX2_busy_1 9 rfl rfl)
theorem dX2_busy_36 : decode cX2_busy 36 = .ok (.iconst 1, 1) := dk_4 (dk_at dksX2_busy_1 12 rfl rfl)
theorem dX2_busy_37 : decode cX2_busy 37 = .ok (.iload 4, 2) := dk_21 4 (dk_at dksX2_busy_1 13 rfl rfl)
theorem dX2_busy_39 : decode cX2_busy 39 = .ok (.ishl, 1) := dk_120 (dk_at dksX2_busy_1 15 rfl rfl)
theorem dX2_busy_40 : decode cX2_busy 40 = .ok (.goto 4, 3) := dk_167 0 4 (dk_at dksX2_busy_1 16 rfl rfl)
theorem dX2_busy_43 : decode cX2_busy 43 = .ok (.iconst 0, 1) := dk_3 (dk_at dksX2_busy_1 19 rfl rfl)
theorem dX2_busy_44 : decode cX2_busy 44 = .ok (.ior, 1) := dk_128 (dk_at dksX2_busy_1 20 rfl rfl)
theorem dX2_busy_45 : decode cX2_busy 45 = .ok (.istore_n 2, 1) := dk_61 (dk_at dksX2_busy_1 21 rfl rfl)
theorem dX2_busy_46 : decode cX2_busy 46 = .ok (.iinc 4 1, 3) := dk_132 4 1 (dk_at dksX2_busy_2 0 rfl rfl)
theorem dX2_busy_49 : decode cX2_busy 49 = .ok (.goto (-34), 3) := dk_167 255 222 (dk_at dksX2_busy_2 3 rfl rfl)
theorem dX2_busy_52 : decode cX2_busy 52 = .ok (.iinc 3 1, 3) := dk_132 3 1 (dk_at dksX2_busy_2 6 rfl rfl)
theorem dX2_busy_55 : decode cX2_busy 55 = .ok (.goto (-51), 3) := dk_167 255 205 (dk_at dksX2_busy_2 9 rfl rfl)
theorem dX2_busy_58 : decode cX2_busy 58 = .ok (.iload_n 2, 1) := dk_28 (dk_at dksX2_busy_2 12 rfl rfl)
theorem dX2_busy_59 : decode cX2_busy 59 = .ok (.ireturn, 1) := dk_172 (dk_at dksX2_busy_2 13 rfl rfl)
abbrev cX2_draw : ByteArray := prog_16_method_4_code
def yX2_draw : MethodName := ⟨RX2, "draw", "(I)I"⟩
def dkwX2_draw_1 : List UInt8 := [17, 127, 255, 126, 27, 112, 172]
abbrev dktX2_draw_1 : List UInt8 := dkwX2_draw_1 ++ []
def dkwX2_draw_0 : List UInt8 := [42, 18, 92, 42, 180, 0, 9, 104, 17, 48, 57, 96, 181, 0, 9, 42, 180, 0, 9, 16, 16, 124]
abbrev dktX2_draw_0 : List UInt8 := dkwX2_draw_0 ++ dktX2_draw_1
theorem dksX2_draw_0 : cX2_draw.data.toList.drop 0 = dktX2_draw_0 := by decide +kernel
theorem dksX2_draw_1 : cX2_draw.data.toList.drop 22 = dktX2_draw_1 := dk_seg dksX2_draw_0 22 rfl rfl
theorem dX2_draw_0 : decode cX2_draw 0 = .ok (.aload_n 0, 1) := dk_42 (dk_at dksX2_draw_0 0 rfl rfl)
theorem dX2_draw_1 : decode cX2_draw 1 = .ok (.ldc 92, 2) := dk_18 92 (dk_at dksX2_draw_0 1 rfl rfl)
theorem dX2_draw_3 : decode cX2_draw 3 = .ok (.aload_n 0, 1) := dk_42 (dk_at dksX2_draw_0 3 rfl rfl)
theorem dX2_draw_4 : decode cX2_draw 4 = .ok (.getfield 9, 3) := dk_180 0 9 (dk_at dksX2_draw_0 4 rfl rfl)
theorem dX2_draw_7 : decode cX2_draw 7 = .ok (.imul, 1) := dk_104 (dk_at dksX2_draw_0 7 rfl rfl)
theorem dX2_draw_8 : decode cX2_draw 8 = .ok (.sipush 12345, 3) := dk_17 48 57 (dk_at dksX2_draw_0 8 rfl rfl)
theorem dX2_draw_11 : decode cX2_draw 11 = .ok (.iadd, 1) := dk_96 (dk_at dksX2_draw_0 11 rfl rfl)
theorem dX2_draw_12 : decode cX2_draw 12 = .ok (.putfield 9, 3) := dk_181 0 9 (dk_at dksX2_draw_0 12 rfl rfl)
theorem dX2_draw_15 : decode cX2_draw 15 = .ok (.aload_n 0, 1) := dk_42 (dk_at dksX2_draw_0 15 rfl rfl)
theorem dX2_draw_16 : decode cX2_draw 16 = .ok (.getfield 9, 3) := dk_180 0 9 (dk_at dksX2_draw_0 16 rfl rfl)
theorem dX2_draw_19 : decode cX2_draw 19 = .ok (.bipush 16, 2) := dk_16 16 (dk_at dksX2_draw_0 19 rfl rfl)
theorem dX2_draw_21 : decode cX2_draw 21 = .ok (.iushr, 1) := dk_124 (dk_at dksX2_draw_0 21 rfl rfl)
theorem dX2_draw_22 : decode cX2_draw 22 = .ok (.sipush 32767, 3) := dk_17 127 255 (dk_at dksX2_draw_1 0 rfl rfl)
theorem dX2_draw_25 : decode cX2_draw 25 = .ok (.iand, 1) := dk_126 (dk_at dksX2_draw_1 3 rfl rfl)
theorem dX2_draw_26 : decode cX2_draw 26 = .ok (.iload_n 1, 1) := dk_27 (dk_at dksX2_draw_1 4 rfl rfl)
theorem dX2_draw_27 : decode cX2_draw 27 = .ok (.irem, 1) := dk_112 (dk_at dksX2_draw_1 5 rfl rfl)
theorem dX2_draw_28 : decode cX2_draw 28 = .ok (.ireturn, 1) := dk_172 (dk_at dksX2_draw_1 6 rfl rfl)
abbrev cX2_tells : ByteArray := prog_16_method_12_code
def yX2_tells : MethodName := ⟨RX2, "tells", "(IIIII)V"⟩
def dkwX2_tells_3 : List UInt8 := [16, 60, 42, 180, 0, 72, 4, 96, 184, 0, 100, 181, 0, 72, 177]
abbrev dktX2_tells_3 : List UInt8 := dkwX2_tells_3 ++ []
def dkwX2_tells_2 : List UInt8 := [180, 0, 48, 6, 29, 79, 42, 180, 0, 48, 7, 21, 4, 79, 42, 180, 0, 48, 8, 21, 5, 79, 42]
abbrev dktX2_tells_2 : List UInt8 := dkwX2_tells_2 ++ dktX2_tells_3
def dkwX2_tells_1 : List UInt8 := [180, 0, 48, 3, 42, 180, 0, 69, 79, 42, 180, 0, 48, 4, 27, 79, 42, 180, 0, 48, 5, 28, 79, 42]
abbrev dktX2_tells_1 : List UInt8 := dkwX2_tells_1 ++ dktX2_tells_2
def dkwX2_tells_0 : List UInt8 := [42, 180, 0, 48, 3, 42, 180, 0, 48, 16, 6, 42, 180, 0, 48, 190, 16, 6, 100, 184, 0, 86, 42]
abbrev dktX2_tells_0 : List UInt8 := dkwX2_tells_0 ++ dktX2_tells_1
theorem dksX2_tells_0 : cX2_tells.data.toList.drop 0 = dktX2_tells_0 := by decide +kernel
theorem dksX2_tells_1 : cX2_tells.data.toList.drop 23 = dktX2_tells_1 := dk_seg dksX2_tells_0 23 rfl rfl
theorem dksX2_tells_2 : cX2_tells.data.toList.drop 47 = dktX2_tells_2 := dk_seg dksX2_tells_1 24 rfl rfl
theorem dksX2_tells_3 : cX2_tells.data.toList.drop 70 = dktX2_tells_3 := dk_seg dksX2_tells_2 23 rfl rfl
theorem dX2_tells_0 : decode cX2_tells 0 = .ok (.aload_n 0, 1) := dk_42 (dk_at dksX2_tells_0 0 rfl rfl)
theorem dX2_tells_1 : decode cX2_tells 1 = .ok (.getfield 48, 3) := dk_180 0 48 (dk_at dksX2_tells_0 1 rfl rfl)
theorem dX2_tells_4 : decode cX2_tells 4 = .ok (.iconst 0, 1) := dk_3 (dk_at dksX2_tells_0 4 rfl rfl)
theorem dX2_tells_5 : decode cX2_tells 5 = .ok (.aload_n 0, 1) := dk_42 (dk_at dksX2_tells_0 5 rfl rfl)
theorem dX2_tells_6 : decode cX2_tells 6 = .ok (.getfield 48, 3) := dk_180 0 48 (dk_at dksX2_tells_0 6 rfl rfl)
theorem dX2_tells_9 : decode cX2_tells 9 = .ok (.bipush 6, 2) := dk_16 6 (dk_at dksX2_tells_0 9 rfl rfl)
theorem dX2_tells_11 : decode cX2_tells 11 = .ok (.aload_n 0, 1) := dk_42 (dk_at dksX2_tells_0 11 rfl rfl)
theorem dX2_tells_12 : decode cX2_tells 12 = .ok (.getfield 48, 3) := dk_180 0 48 (dk_at dksX2_tells_0 12 rfl rfl)
theorem dX2_tells_15 : decode cX2_tells 15 = .ok (.arraylength, 1) := dk_190 (dk_at dksX2_tells_0 15 rfl rfl)
theorem dX2_tells_16 : decode cX2_tells 16 = .ok (.bipush 6, 2) := dk_16 6 (dk_at dksX2_tells_0 16 rfl rfl)
theorem dX2_tells_18 : decode cX2_tells 18 = .ok (.isub, 1) := dk_100 (dk_at dksX2_tells_0 18 rfl rfl)
theorem dX2_tells_19 : decode cX2_tells 19 = .ok (.invokestatic 86, 3) := dk_184 0 86 (dk_at dksX2_tells_0 19 rfl rfl)
theorem dX2_tells_22 : decode cX2_tells 22 = .ok (.aload_n 0, 1) := dk_42 (dk_at dksX2_tells_0 22 rfl rfl)
theorem dX2_tells_23 : decode cX2_tells 23 = .ok (.getfield 48, 3) := dk_180 0 48 (dk_at dksX2_tells_1 0 rfl rfl)
theorem dX2_tells_26 : decode cX2_tells 26 = .ok (.iconst 0, 1) := dk_3 (dk_at dksX2_tells_1 3 rfl rfl)
theorem dX2_tells_27 : decode cX2_tells 27 = .ok (.aload_n 0, 1) := dk_42 (dk_at dksX2_tells_1 4 rfl rfl)
theorem dX2_tells_28 : decode cX2_tells 28 = .ok (.getfield 69, 3) := dk_180 0 69 (dk_at dksX2_tells_1 5 rfl rfl)
theorem dX2_tells_31 : decode cX2_tells 31 = .ok (.iastore, 1) := dk_79 (dk_at dksX2_tells_1 8 rfl rfl)
theorem dX2_tells_32 : decode cX2_tells 32 = .ok (.aload_n 0, 1) := dk_42 (dk_at dksX2_tells_1 9 rfl rfl)
theorem dX2_tells_33 : decode cX2_tells 33 = .ok (.getfield 48, 3) := dk_180 0 48 (dk_at dksX2_tells_1 10 rfl rfl)
theorem dX2_tells_36 : decode cX2_tells 36 = .ok (.iconst 1, 1) := dk_4 (dk_at dksX2_tells_1 13 rfl rfl)
theorem dX2_tells_37 : decode cX2_tells 37 = .ok (.iload_n 1, 1) := dk_27 (dk_at dksX2_tells_1 14 rfl rfl)
theorem dX2_tells_38 : decode cX2_tells 38 = .ok (.iastore, 1) := dk_79 (dk_at dksX2_tells_1 15 rfl rfl)
theorem dX2_tells_39 : decode cX2_tells 39 = .ok (.aload_n 0, 1) := dk_42 (dk_at dksX2_tells_1 16 rfl rfl)
theorem dX2_tells_40 : decode cX2_tells 40 = .ok (.getfield 48, 3) := dk_180 0 48 (dk_at dksX2_tells_1 17 rfl rfl)
theorem dX2_tells_43 : decode cX2_tells 43 = .ok (.iconst 2, 1) := dk_5 (dk_at dksX2_tells_1 20 rfl rfl)
theorem dX2_tells_44 : decode cX2_tells 44 = .ok (.iload_n 2, 1) := dk_28 (dk_at dksX2_tells_1 21 rfl rfl)
theorem dX2_tells_45 : decode cX2_tells 45 = .ok (.iastore, 1) := dk_79 (dk_at dksX2_tells_1 22 rfl rfl)
theorem dX2_tells_46 : decode cX2_tells 46 = .ok (.aload_n 0, 1) := dk_42 (dk_at dksX2_tells_1 23 rfl rfl)
theorem dX2_tells_47 : decode cX2_tells 47 = .ok (.getfield 48, 3) := dk_180 0 48 (dk_at dksX2_tells_2 0 rfl rfl)
theorem dX2_tells_50 : decode cX2_tells 50 = .ok (.iconst 3, 1) := dk_6 (dk_at dksX2_tells_2 3 rfl rfl)
theorem dX2_tells_51 : decode cX2_tells 51 = .ok (.iload_n 3, 1) := dk_29 (dk_at dksX2_tells_2 4 rfl rfl)
theorem dX2_tells_52 : decode cX2_tells 52 = .ok (.iastore, 1) := dk_79 (dk_at dksX2_tells_2 5 rfl rfl)
theorem dX2_tells_53 : decode cX2_tells 53 = .ok (.aload_n 0, 1) := dk_42 (dk_at dksX2_tells_2 6 rfl rfl)
theorem dX2_tells_54 : decode cX2_tells 54 = .ok (.getfield 48, 3) := dk_180 0 48 (dk_at dksX2_tells_2 7 rfl rfl)
theorem dX2_tells_57 : decode cX2_tells 57 = .ok (.iconst 4, 1) := dk_7 (dk_at dksX2_tells_2 10 rfl rfl)
theorem dX2_tells_58 : decode cX2_tells 58 = .ok (.iload 4, 2) := dk_21 4 (dk_at dksX2_tells_2 11 rfl rfl)
theorem dX2_tells_60 : decode cX2_tells 60 = .ok (.iastore, 1) := dk_79 (dk_at dksX2_tells_2 13 rfl rfl)
theorem dX2_tells_61 : decode cX2_tells 61 = .ok (.aload_n 0, 1) := dk_42 (dk_at dksX2_tells_2 14 rfl rfl)
theorem dX2_tells_62 : decode cX2_tells 62 = .ok (.getfield 48, 3) := dk_180 0 48 (dk_at dksX2_tells_2 15 rfl rfl)
theorem dX2_tells_65 : decode cX2_tells 65 = .ok (.iconst 5, 1) := dk_8 (dk_at dksX2_tells_2 18 rfl rfl)
theorem dX2_tells_66 : decode cX2_tells 66 = .ok (.iload 5, 2) := dk_21 5 (dk_at dksX2_tells_2 19 rfl rfl)
theorem dX2_tells_68 : decode cX2_tells 68 = .ok (.iastore, 1) := dk_79 (dk_at dksX2_tells_2 21 rfl rfl)
theorem dX2_tells_69 : decode cX2_tells 69 = .ok (.aload_n 0, 1) := dk_42 (dk_at dksX2_tells_2 22 rfl rfl)
theorem dX2_tells_70 : decode cX2_tells 70 = .ok (.bipush 60, 2) := dk_16 60 (dk_at dksX2_tells_3 0 rfl rfl)
theorem dX2_tells_72 : decode cX2_tells 72 = .ok (.aload_n 0, 1) := dk_42 (dk_at dksX2_tells_3 2 rfl rfl)
theorem dX2_tells_73 : decode cX2_tells 73 = .ok (.getfield 72, 3) := dk_180 0 72 (dk_at dksX2_tells_3 3 rfl rfl)
theorem dX2_tells_76 : decode cX2_tells 76 = .ok (.iconst 1, 1) := dk_4 (dk_at dksX2_tells_3 6 rfl rfl)
theorem dX2_tells_77 : decode cX2_tells 77 = .ok (.iadd, 1) := dk_96 (dk_at dksX2_tells_3 7 rfl rfl)
theorem dX2_tells_78 : decode cX2_tells 78 = .ok (.invokestatic 100, 3) := dk_184 0 100 (dk_at dksX2_tells_3 8 rfl rfl)
theorem dX2_tells_81 : decode cX2_tells 81 = .ok (.putfield 72, 3) := dk_181 0 72 (dk_at dksX2_tells_3 11 rfl rfl)
theorem dX2_tells_84 : decode cX2_tells 84 = .ok (.return_, 1) := dk_177 (dk_at dksX2_tells_3 14 rfl rfl)
abbrev cX2_settles : ByteArray := prog_16_method_14_code
def yX2_settles : MethodName := ⟨RX2, "settles", "(IZZ)V"⟩
def dkwX2_settles_3 : List UInt8 := [153, 0, 12, 42, 27, 2, 2, 4, 3, 182, 0, 116, 177]
abbrev dktX2_settles_3 : List UInt8 := dkwX2_settles_3 ++ []
def dkwX2_settles_2 : List UInt8 := [182, 0, 112, 42, 180, 0, 25, 27, 3, 79, 42, 89, 180, 0, 83, 4, 27, 120, 128, 181, 0, 83, 29]
abbrev dktX2_settles_2 : List UInt8 := dkwX2_settles_2 ++ dktX2_settles_3
def dkwX2_settles_1 : List UInt8 := [184, 0, 100, 79, 42, 180, 0, 25, 27, 46, 42, 180, 0, 15, 27, 46, 163, 0, 4, 177, 42, 27]
abbrev dktX2_settles_1 : List UInt8 := dkwX2_settles_1 ++ dktX2_settles_2
def dkwX2_settles_0 : List UInt8 := [42, 180, 0, 25, 27, 28, 153, 0, 7, 3, 167, 0, 16, 16, 99, 42, 180, 0, 25, 27, 46, 4, 96]
abbrev dktX2_settles_0 : List UInt8 := dkwX2_settles_0 ++ dktX2_settles_1
theorem dksX2_settles_0 : cX2_settles.data.toList.drop 0 = dktX2_settles_0 := by decide +kernel
theorem dksX2_settles_1 : cX2_settles.data.toList.drop 23 = dktX2_settles_1 := dk_seg dksX2_settles_0 23 rfl rfl
theorem dksX2_settles_2 : cX2_settles.data.toList.drop 45 = dktX2_settles_2 := dk_seg dksX2_settles_1 22 rfl rfl
theorem dksX2_settles_3 : cX2_settles.data.toList.drop 68 = dktX2_settles_3 := dk_seg dksX2_settles_2 23 rfl rfl
theorem dX2_settles_0 : decode cX2_settles 0 = .ok (.aload_n 0, 1) := dk_42 (dk_at dksX2_settles_0 0 rfl rfl)
theorem dX2_settles_1 : decode cX2_settles 1 = .ok (.getfield 25, 3) := dk_180 0 25 (dk_at dksX2_settles_0 1 rfl rfl)
theorem dX2_settles_4 : decode cX2_settles 4 = .ok (.iload_n 1, 1) := dk_27 (dk_at dksX2_settles_0 4 rfl rfl)
theorem dX2_settles_5 : decode cX2_settles 5 = .ok (.iload_n 2, 1) := dk_28 (dk_at dksX2_settles_0 5 rfl rfl)
theorem dX2_settles_6 : decode cX2_settles 6 = .ok (.ifCond .eq 7, 3) := dk_153 0 7 (dk_at dksX2_settles_0 6 rfl rfl)
theorem dX2_settles_9 : decode cX2_settles 9 = .ok (.iconst 0, 1) := dk_3 (dk_at dksX2_settles_0 9 rfl rfl)
theorem dX2_settles_10 : decode cX2_settles 10 = .ok (.goto 16, 3) := dk_167 0 16 (dk_at dksX2_settles_0 10 rfl rfl)
theorem dX2_settles_13 : decode cX2_settles 13 = .ok (.bipush 99, 2) := dk_16 99 (dk_at dksX2_settles_0 13 rfl rfl)
theorem dX2_settles_15 : decode cX2_settles 15 = .ok (.aload_n 0, 1) := dk_42 (dk_at dksX2_settles_0 15 rfl rfl)
theorem dX2_settles_16 : decode cX2_settles 16 = .ok (.getfield 25, 3) := dk_180 0 25 (dk_at dksX2_settles_0 16 rfl rfl)
theorem dX2_settles_19 : decode cX2_settles 19 = .ok (.iload_n 1, 1) := dk_27 (dk_at dksX2_settles_0 19 rfl rfl)
theorem dX2_settles_20 : decode cX2_settles 20 = .ok (.iaload, 1) := dk_46 (dk_at dksX2_settles_0 20 rfl rfl)
theorem dX2_settles_21 : decode cX2_settles 21 = .ok (.iconst 1, 1) := dk_4 (dk_at dksX2_settles_0 21 rfl rfl)
theorem dX2_settles_22 : decode cX2_settles 22 = .ok (.iadd, 1) := dk_96 (dk_at dksX2_settles_0 22 rfl rfl)
theorem dX2_settles_23 : decode cX2_settles 23 = .ok (.invokestatic 100, 3) := dk_184 0 100 (dk_at dksX2_settles_1 0 rfl rfl)
theorem dX2_settles_26 : decode cX2_settles 26 = .ok (.iastore, 1) := dk_79 (dk_at dksX2_settles_1 3 rfl rfl)
theorem dX2_settles_27 : decode cX2_settles 27 = .ok (.aload_n 0, 1) := dk_42 (dk_at dksX2_settles_1 4 rfl rfl)
theorem dX2_settles_28 : decode cX2_settles 28 = .ok (.getfield 25, 3) := dk_180 0 25 (dk_at dksX2_settles_1 5 rfl rfl)
theorem dX2_settles_31 : decode cX2_settles 31 = .ok (.iload_n 1, 1) := dk_27 (dk_at dksX2_settles_1 8 rfl rfl)
theorem dX2_settles_32 : decode cX2_settles 32 = .ok (.iaload, 1) := dk_46 (dk_at dksX2_settles_1 9 rfl rfl)
theorem dX2_settles_33 : decode cX2_settles 33 = .ok (.aload_n 0, 1) := dk_42 (dk_at dksX2_settles_1 10 rfl rfl)
theorem dX2_settles_34 : decode cX2_settles 34 = .ok (.getfield 15, 3) := dk_180 0 15 (dk_at dksX2_settles_1 11 rfl rfl)
theorem dX2_settles_37 : decode cX2_settles 37 = .ok (.iload_n 1, 1) := dk_27 (dk_at dksX2_settles_1 14 rfl rfl)
theorem dX2_settles_38 : decode cX2_settles 38 = .ok (.iaload, 1) := dk_46 (dk_at dksX2_settles_1 15 rfl rfl)
theorem dX2_settles_39 : decode cX2_settles 39 = .ok (.if_icmp .gt 4, 3) := dk_163 0 4 (dk_at dksX2_settles_1 16 rfl rfl)
theorem dX2_settles_42 : decode cX2_settles 42 = .ok (.return_, 1) := dk_177 (dk_at dksX2_settles_1 19 rfl rfl)
theorem dX2_settles_43 : decode cX2_settles 43 = .ok (.aload_n 0, 1) := dk_42 (dk_at dksX2_settles_1 20 rfl rfl)
theorem dX2_settles_44 : decode cX2_settles 44 = .ok (.iload_n 1, 1) := dk_27 (dk_at dksX2_settles_1 21 rfl rfl)
theorem dX2_settles_45 : decode cX2_settles 45 = .ok (.invokevirtual 112, 3) := dk_182 0 112 (dk_at dksX2_settles_2 0 rfl rfl)
theorem dX2_settles_48 : decode cX2_settles 48 = .ok (.aload_n 0, 1) := dk_42 (dk_at dksX2_settles_2 3 rfl rfl)
theorem dX2_settles_49 : decode cX2_settles 49 = .ok (.getfield 25, 3) := dk_180 0 25 (dk_at dksX2_settles_2 4 rfl rfl)
theorem dX2_settles_52 : decode cX2_settles 52 = .ok (.iload_n 1, 1) := dk_27 (dk_at dksX2_settles_2 7 rfl rfl)
theorem dX2_settles_53 : decode cX2_settles 53 = .ok (.iconst 0, 1) := dk_3 (dk_at dksX2_settles_2 8 rfl rfl)
theorem dX2_settles_54 : decode cX2_settles 54 = .ok (.iastore, 1) := dk_79 (dk_at dksX2_settles_2 9 rfl rfl)
theorem dX2_settles_55 : decode cX2_settles 55 = .ok (.aload_n 0, 1) := dk_42 (dk_at dksX2_settles_2 10 rfl rfl)
theorem dX2_settles_56 : decode cX2_settles 56 = .ok (.dup, 1) := dk_89 (dk_at dksX2_settles_2 11 rfl rfl)
theorem dX2_settles_57 : decode cX2_settles 57 = .ok (.getfield 83, 3) := dk_180 0 83 (dk_at dksX2_settles_2 12 rfl rfl)
theorem dX2_settles_60 : decode cX2_settles 60 = .ok (.iconst 1, 1) := dk_4 (dk_at dksX2_settles_2 15 rfl rfl)
theorem dX2_settles_61 : decode cX2_settles 61 = .ok (.iload_n 1, 1) := dk_27 (dk_at dksX2_settles_2 16 rfl rfl)
theorem dX2_settles_62 : decode cX2_settles 62 = .ok (.ishl, 1) := dk_120 (dk_at dksX2_settles_2 17 rfl rfl)
theorem dX2_settles_63 : decode cX2_settles 63 = .ok (.ior, 1) := dk_128 (dk_at dksX2_settles_2 18 rfl rfl)
theorem dX2_settles_64 : decode cX2_settles 64 = .ok (.putfield 83, 3) := dk_181 0 83 (dk_at dksX2_settles_2 19 rfl rfl)
theorem dX2_settles_67 : decode cX2_settles 67 = .ok (.iload_n 3, 1) := dk_29 (dk_at dksX2_settles_2 22 rfl rfl)
theorem dX2_settles_68 : decode cX2_settles 68 = .ok (.ifCond .eq 12, 3) := dk_153 0 12 (dk_at dksX2_settles_3 0 rfl rfl)
theorem dX2_settles_71 : decode cX2_settles 71 = .ok (.aload_n 0, 1) := dk_42 (dk_at dksX2_settles_3 3 rfl rfl)
theorem dX2_settles_72 : decode cX2_settles 72 = .ok (.iload_n 1, 1) := dk_27 (dk_at dksX2_settles_3 4 rfl rfl)
theorem dX2_settles_73 : decode cX2_settles 73 = .ok (.iconst (-1), 1) := dk_2 (dk_at dksX2_settles_3 5 rfl rfl)
theorem dX2_settles_74 : decode cX2_settles 74 = .ok (.iconst (-1), 1) := dk_2 (dk_at dksX2_settles_3 6 rfl rfl)
theorem dX2_settles_75 : decode cX2_settles 75 = .ok (.iconst 1, 1) := dk_4 (dk_at dksX2_settles_3 7 rfl rfl)
theorem dX2_settles_76 : decode cX2_settles 76 = .ok (.iconst 0, 1) := dk_3 (dk_at dksX2_settles_3 8 rfl rfl)
theorem dX2_settles_77 : decode cX2_settles 77 = .ok (.invokevirtual 116, 3) := dk_182 0 116 (dk_at dksX2_settles_3 9 rfl rfl)
theorem dX2_settles_80 : decode cX2_settles 80 = .ok (.return_, 1) := dk_177 (dk_at dksX2_settles_3 12 rfl rfl)
abbrev cX2_ends : ByteArray := prog_16_method_15_code
def yX2_ends : MethodName := ⟨RX2, "ends", "()V"⟩
def dkwX2_ends_0 : List UInt8 := [42, 17, 39, 15, 42, 180, 0, 69, 4, 96, 184, 0, 100, 181, 0, 69, 177]
abbrev dktX2_ends_0 : List UInt8 := dkwX2_ends_0 ++ []
theorem dksX2_ends_0 : cX2_ends.data.toList.drop 0 = dktX2_ends_0 := by decide +kernel
theorem dX2_ends_0 : decode cX2_ends 0 = .ok (.aload_n 0, 1) := dk_42 (dk_at dksX2_ends_0 0 rfl rfl)
theorem dX2_ends_1 : decode cX2_ends 1 = .ok (.sipush 9999, 3) := dk_17 39 15 (dk_at dksX2_ends_0 1 rfl rfl)
theorem dX2_ends_4 : decode cX2_ends 4 = .ok (.aload_n 0, 1) := dk_42 (dk_at dksX2_ends_0 4 rfl rfl)
theorem dX2_ends_5 : decode cX2_ends 5 = .ok (.getfield 69, 3) := dk_180 0 69 (dk_at dksX2_ends_0 5 rfl rfl)
theorem dX2_ends_8 : decode cX2_ends 8 = .ok (.iconst 1, 1) := dk_4 (dk_at dksX2_ends_0 8 rfl rfl)
theorem dX2_ends_9 : decode cX2_ends 9 = .ok (.iadd, 1) := dk_96 (dk_at dksX2_ends_0 9 rfl rfl)
theorem dX2_ends_10 : decode cX2_ends 10 = .ok (.invokestatic 100, 3) := dk_184 0 100 (dk_at dksX2_ends_0 10 rfl rfl)
theorem dX2_ends_13 : decode cX2_ends 13 = .ok (.putfield 69, 3) := dk_181 0 69 (dk_at dksX2_ends_0 13 rfl rfl)
theorem dX2_ends_16 : decode cX2_ends 16 = .ok (.return_, 1) := dk_177 (dk_at dksX2_ends_0 16 rfl rfl)
theorem q145 : (Jvm.Cond.initialized "VisitingHours$World") ∈ lw_all := lw_g (lw_at lw_m1 2 rfl) rfl
theorem q196 : (Jvm.Cond.instantiable "VisitingHours$World" (22 : Nat)) ∈ lw_all := lw_g (lw_at lw_m1 53 rfl) rfl
theorem q198 : (Jvm.Cond.instanceMethod ({ cls := "VisitingHours$World", name := "<init>", desc := "()V" } : Jvm.MethodName)) ∈ lw_all := lw_g (lw_at lw_m1 55 rfl) rfl
theorem q199 : (Jvm.Cond.code ({ cls := "VisitingHours$World", name := "<init>", desc := "()V" } : Jvm.MethodName) prog_16_method_1_code (1 : Nat) (Option.none : Option Jvm.ClassFile.FieldType)) ∈ lw_all := lw_g (lw_at lw_m1 56 rfl) rfl
theorem q200 : (Jvm.Cond.methodLink "VisitingHours$World" (3 : Nat) ({ cls := "java/lang/Object", name := "<init>", desc := "()V" } : Jvm.MethodName)) ∈ lw_all := lw_g (lw_at lw_m1 57 rfl) rfl
theorem q201 : (Jvm.Cond.classLink "VisitingHours$World" (37 : Nat) "[[I") ∈ lw_all := lw_g (lw_at lw_m1 58 rfl) rfl
theorem q203 : (Jvm.Cond.fieldLink "VisitingHours$World" (51 : Nat) "VisitingHours$World" "texts" "I") ∈ lw_all := lw_g (lw_at lw_m1 60 rfl) rfl
theorem q205 : (Jvm.Cond.fieldLink "VisitingHours$World" (54 : Nat) "VisitingHours$World" "hosts" "I") ∈ lw_all := lw_g (lw_at lw_m1 62 rfl) rfl
theorem q208 : (Jvm.Cond.fieldLink "VisitingHours$World" (57 : Nat) "VisitingHours$World" "guests" "I") ∈ lw_all := lw_g (lw_at lw_m1 65 rfl) rfl
theorem q211 : (Jvm.Cond.fieldLink "VisitingHours$World" (60 : Nat) "VisitingHours$World" "rain" "I") ∈ lw_all := lw_g (lw_at lw_m1 68 rfl) rfl
theorem q213 : (Jvm.Cond.fieldLink "VisitingHours$World" (63 : Nat) "VisitingHours$World" "must" "I") ∈ lw_all := lw_g (lw_at lw_m1 70 rfl) rfl
theorem q215 : (Jvm.Cond.fieldLink "VisitingHours$World" (66 : Nat) "VisitingHours$World" "not" "I") ∈ lw_all := lw_g (lw_at lw_m1 72 rfl) rfl
theorem q217 : (Jvm.Cond.fieldLink "VisitingHours$World" (69 : Nat) "VisitingHours$World" "week" "I") ∈ lw_all := lw_g (lw_at lw_m1 74 rfl) rfl
theorem q219 : (Jvm.Cond.fieldLink "VisitingHours$World" (72 : Nat) "VisitingHours$World" "logged" "I") ∈ lw_all := lw_g (lw_at lw_m1 76 rfl) rfl
theorem q221 : (Jvm.Cond.fieldLink "VisitingHours$World" (9 : Nat) "VisitingHours$World" "seed" "I") ∈ lw_all := lw_g (lw_at lw_m1 78 rfl) rfl
theorem q223 : (Jvm.Cond.fieldLink "VisitingHours$World" (15 : Nat) "VisitingHours$World" "patience" "[I") ∈ lw_all := lw_g (lw_at lw_m1 80 rfl) rfl
theorem q225 : (Jvm.Cond.fieldLink "VisitingHours$World" (19 : Nat) "VisitingHours$World" "hours" "[I") ∈ lw_all := lw_g (lw_at lw_m1 82 rfl) rfl
theorem q227 : (Jvm.Cond.fieldLink "VisitingHours$World" (22 : Nat) "VisitingHours$World" "glad" "[I") ∈ lw_all := lw_g (lw_at lw_m1 84 rfl) rfl
theorem q229 : (Jvm.Cond.fieldLink "VisitingHours$World" (25 : Nat) "VisitingHours$World" "lonely" "[I") ∈ lw_all := lw_g (lw_at lw_m1 86 rfl) rfl
theorem q231 : (Jvm.Cond.fieldLink "VisitingHours$World" (28 : Nat) "VisitingHours$World" "stay" "[I") ∈ lw_all := lw_g (lw_at lw_m1 88 rfl) rfl
theorem q233 : (Jvm.Cond.fieldLink "VisitingHours$World" (31 : Nat) "VisitingHours$World" "times" "[I") ∈ lw_all := lw_g (lw_at lw_m1 90 rfl) rfl
theorem q235 : (Jvm.Cond.fieldLink "VisitingHours$World" (34 : Nat) "VisitingHours$World" "marks" "[I") ∈ lw_all := lw_g (lw_at lw_m1 92 rfl) rfl
theorem q237 : (Jvm.Cond.fieldLink "VisitingHours$World" (39 : Nat) "VisitingHours$World" "likes" "[[I") ∈ lw_all := lw_g (lw_at lw_m1 94 rfl) rfl
theorem q240 : (Jvm.Cond.fieldLink "VisitingHours$World" (42 : Nat) "VisitingHours$World" "loves" "[[I") ∈ lw_all := lw_g (lw_at lw_m1 97 rfl) rfl
theorem q243 : (Jvm.Cond.fieldLink "VisitingHours$World" (45 : Nat) "VisitingHours$World" "booked" "[[I") ∈ lw_all := lw_g (lw_at lw_m1 100 rfl) rfl
theorem q245 : (Jvm.Cond.fieldLink "VisitingHours$World" (48 : Nat) "VisitingHours$World" "log" "[I") ∈ lw_all := lw_g (lw_at lw_m1 102 rfl) rfl
theorem q247 : (Jvm.Cond.fieldLink "VisitingHours$World" (75 : Nat) "VisitingHours$World" "law" "LVisitingHours$Law;") ∈ lw_all := lw_g (lw_at lw_m1 104 rfl) rfl
theorem q249 : (Jvm.Cond.fieldLink "VisitingHours$World" (83 : Nat) "VisitingHours$World" "settled" "I") ∈ lw_all := lw_g (lw_at lw_m1 106 rfl) rfl
theorem q251 : (Jvm.Cond.lays "VisitingHours$World" "VisitingHours$World" "texts" "I") ∈ lw_all := lw_g (lw_at lw_m1 108 rfl) rfl
theorem q252 : (Jvm.Cond.soleField "VisitingHours$World" "texts") ∈ lw_all := lw_g (lw_at lw_m1 109 rfl) rfl
theorem q253 : (Jvm.Cond.lays "VisitingHours$World" "VisitingHours$World" "hosts" "I") ∈ lw_all := lw_g (lw_at lw_m1 110 rfl) rfl
theorem q254 : (Jvm.Cond.soleField "VisitingHours$World" "hosts") ∈ lw_all := lw_g (lw_at lw_m1 111 rfl) rfl
theorem q255 : (Jvm.Cond.lays "VisitingHours$World" "VisitingHours$World" "guests" "I") ∈ lw_all := lw_g (lw_at lw_m1 112 rfl) rfl
theorem q256 : (Jvm.Cond.soleField "VisitingHours$World" "guests") ∈ lw_all := lw_g (lw_at lw_m1 113 rfl) rfl
theorem q257 : (Jvm.Cond.lays "VisitingHours$World" "VisitingHours$World" "rain" "I") ∈ lw_all := lw_g (lw_at lw_m1 114 rfl) rfl
theorem q258 : (Jvm.Cond.soleField "VisitingHours$World" "rain") ∈ lw_all := lw_g (lw_at lw_m1 115 rfl) rfl
theorem q259 : (Jvm.Cond.lays "VisitingHours$World" "VisitingHours$World" "must" "I") ∈ lw_all := lw_g (lw_at lw_m1 116 rfl) rfl
theorem q260 : (Jvm.Cond.soleField "VisitingHours$World" "must") ∈ lw_all := lw_g (lw_at lw_m1 117 rfl) rfl
theorem q261 : (Jvm.Cond.lays "VisitingHours$World" "VisitingHours$World" "not" "I") ∈ lw_all := lw_g (lw_at lw_m1 118 rfl) rfl
theorem q262 : (Jvm.Cond.soleField "VisitingHours$World" "not") ∈ lw_all := lw_g (lw_at lw_m1 119 rfl) rfl
theorem q263 : (Jvm.Cond.lays "VisitingHours$World" "VisitingHours$World" "week" "I") ∈ lw_all := lw_g (lw_at lw_m1 120 rfl) rfl
theorem q264 : (Jvm.Cond.soleField "VisitingHours$World" "week") ∈ lw_all := lw_g (lw_at lw_m1 121 rfl) rfl
theorem q265 : (Jvm.Cond.lays "VisitingHours$World" "VisitingHours$World" "logged" "I") ∈ lw_all := lw_g (lw_at lw_m1 122 rfl) rfl
theorem q266 : (Jvm.Cond.soleField "VisitingHours$World" "logged") ∈ lw_all := lw_g (lw_at lw_m1 123 rfl) rfl
theorem q267 : (Jvm.Cond.lays "VisitingHours$World" "VisitingHours$World" "seed" "I") ∈ lw_all := lw_g (lw_at lw_m1 124 rfl) rfl
theorem q268 : (Jvm.Cond.soleField "VisitingHours$World" "seed") ∈ lw_all := lw_g (lw_at lw_m1 125 rfl) rfl
theorem q269 : (Jvm.Cond.laysFinal "VisitingHours$World" "VisitingHours$World" "patience" "[I") ∈ lw_all := lw_g (lw_at lw_m1 126 rfl) rfl
theorem q270 : (Jvm.Cond.soleField "VisitingHours$World" "patience") ∈ lw_all := lw_g (lw_at lw_m1 127 rfl) rfl
theorem q271 : (Jvm.Cond.laysFinal "VisitingHours$World" "VisitingHours$World" "hours" "[I") ∈ lw_all := lw_g (lw_at lw_m1 128 rfl) rfl
theorem q272 : (Jvm.Cond.soleField "VisitingHours$World" "hours") ∈ lw_all := lw_g (lw_at lw_m1 129 rfl) rfl
theorem q273 : (Jvm.Cond.laysFinal "VisitingHours$World" "VisitingHours$World" "glad" "[I") ∈ lw_all := lw_g (lw_at lw_m1 130 rfl) rfl
theorem q274 : (Jvm.Cond.soleField "VisitingHours$World" "glad") ∈ lw_all := lw_g (lw_at lw_m1 131 rfl) rfl
theorem q275 : (Jvm.Cond.laysFinal "VisitingHours$World" "VisitingHours$World" "lonely" "[I") ∈ lw_all := lw_g (lw_at lw_m1 132 rfl) rfl
theorem q276 : (Jvm.Cond.soleField "VisitingHours$World" "lonely") ∈ lw_all := lw_g (lw_at lw_m1 133 rfl) rfl
theorem q277 : (Jvm.Cond.laysFinal "VisitingHours$World" "VisitingHours$World" "stay" "[I") ∈ lw_all := lw_g (lw_at lw_m1 134 rfl) rfl
theorem q278 : (Jvm.Cond.soleField "VisitingHours$World" "stay") ∈ lw_all := lw_g (lw_at lw_m1 135 rfl) rfl
theorem q279 : (Jvm.Cond.laysFinal "VisitingHours$World" "VisitingHours$World" "times" "[I") ∈ lw_all := lw_g (lw_at lw_m1 136 rfl) rfl
theorem q280 : (Jvm.Cond.soleField "VisitingHours$World" "times") ∈ lw_all := lw_g (lw_at lw_m1 137 rfl) rfl
theorem q281 : (Jvm.Cond.laysFinal "VisitingHours$World" "VisitingHours$World" "marks" "[I") ∈ lw_all := lw_g (lw_at lw_m1 138 rfl) rfl
theorem q282 : (Jvm.Cond.soleField "VisitingHours$World" "marks") ∈ lw_all := lw_g (lw_at lw_m1 139 rfl) rfl
theorem q283 : (Jvm.Cond.laysFinal "VisitingHours$World" "VisitingHours$World" "likes" "[[I") ∈ lw_all := lw_g (lw_at lw_m1 140 rfl) rfl
theorem q284 : (Jvm.Cond.soleField "VisitingHours$World" "likes") ∈ lw_all := lw_g (lw_at lw_m1 141 rfl) rfl
theorem q285 : (Jvm.Cond.laysFinal "VisitingHours$World" "VisitingHours$World" "loves" "[[I") ∈ lw_all := lw_g (lw_at lw_m1 142 rfl) rfl
theorem q286 : (Jvm.Cond.soleField "VisitingHours$World" "loves") ∈ lw_all := lw_g (lw_at lw_m1 143 rfl) rfl
theorem q287 : (Jvm.Cond.laysFinal "VisitingHours$World" "VisitingHours$World" "booked" "[[I") ∈ lw_all := lw_g (lw_at lw_m1 144 rfl) rfl
theorem q288 : (Jvm.Cond.soleField "VisitingHours$World" "booked") ∈ lw_all := lw_g (lw_at lw_m1 145 rfl) rfl
theorem q289 : (Jvm.Cond.laysFinal "VisitingHours$World" "VisitingHours$World" "log" "[I") ∈ lw_all := lw_g (lw_at lw_m1 146 rfl) rfl
theorem q290 : (Jvm.Cond.soleField "VisitingHours$World" "log") ∈ lw_all := lw_g (lw_at lw_m1 147 rfl) rfl
theorem q291 : (Jvm.Cond.lays "VisitingHours$World" "VisitingHours$World" "law" "LVisitingHours$Law;") ∈ lw_all := lw_g (lw_at lw_m1 148 rfl) rfl
theorem q292 : (Jvm.Cond.soleField "VisitingHours$World" "law") ∈ lw_all := lw_g (lw_at lw_m1 149 rfl) rfl
theorem q293 : (Jvm.Cond.lays "VisitingHours$World" "VisitingHours$World" "settled" "I") ∈ lw_all := lw_g (lw_at lw_m1 150 rfl) rfl
theorem q294 : (Jvm.Cond.soleField "VisitingHours$World" "settled") ∈ lw_all := lw_g (lw_at lw_m1 151 rfl) rfl
theorem q295 : (Jvm.Cond.superclass "VisitingHours$World" "java/lang/Object") ∈ lw_all := lw_g (lw_at lw_m1 152 rfl) rfl
theorem q511 : (Jvm.Cond.instanceMethod ({ cls := "VisitingHours$World", name := "can", desc := "(III)Z" } : Jvm.MethodName)) ∈ lw_all := lw_g (lw_at lw_m2 128 rfl) rfl
theorem q512 : (Jvm.Cond.selects "VisitingHours$World" ({ cls := "VisitingHours$World", name := "can", desc := "(III)Z" } : Jvm.MethodName) ({ cls := "VisitingHours$World", name := "can", desc := "(III)Z" } : Jvm.MethodName)) ∈ lw_all := lw_g (lw_at lw_m2 129 rfl) rfl
theorem q513 : (Jvm.Cond.code ({ cls := "VisitingHours$World", name := "can", desc := "(III)Z" } : Jvm.MethodName) prog_16_method_6_code (4 : Nat) (Option.some Jvm.ClassFile.FieldType.boolean)) ∈ lw_all := lw_g (lw_at lw_m2 130 rfl) rfl
theorem q514 : (Jvm.Cond.methodLinkNest "VisitingHours$World" (93 : Nat) ({ cls := "VisitingHours", name := "has", desc := "(II)Z" } : Jvm.MethodName) "VisitingHours") ∈ lw_tbl := lw_at lw_m2 131 rfl
theorem q517 : (Jvm.Cond.methodLink "VisitingHours$World" (97 : Nat) ({ cls := "VisitingHours$World", name := "both", desc := "(II)Z" } : Jvm.MethodName)) ∈ lw_all := lw_g (lw_at lw_m2 134 rfl) rfl
theorem q518 : (Jvm.Cond.instanceMethod ({ cls := "VisitingHours$World", name := "both", desc := "(II)Z" } : Jvm.MethodName)) ∈ lw_all := lw_g (lw_at lw_m2 135 rfl) rfl
theorem q519 : (Jvm.Cond.selects "VisitingHours$World" ({ cls := "VisitingHours$World", name := "both", desc := "(II)Z" } : Jvm.MethodName) ({ cls := "VisitingHours$World", name := "both", desc := "(II)Z" } : Jvm.MethodName)) ∈ lw_all := lw_g (lw_at lw_m2 136 rfl) rfl
theorem q520 : (Jvm.Cond.code ({ cls := "VisitingHours$World", name := "both", desc := "(II)Z" } : Jvm.MethodName) prog_16_method_5_code (3 : Nat) (Option.some Jvm.ClassFile.FieldType.boolean)) ∈ lw_all := lw_g (lw_at lw_m2 137 rfl) rfl
theorem q526 : (Jvm.Cond.instanceMethod ({ cls := "VisitingHours$World", name := "isMarked", desc := "(I)Z" } : Jvm.MethodName)) ∈ lw_all := lw_g (lw_at lw_m2 143 rfl) rfl
theorem q527 : (Jvm.Cond.selects "VisitingHours$World" ({ cls := "VisitingHours$World", name := "isMarked", desc := "(I)Z" } : Jvm.MethodName) ({ cls := "VisitingHours$World", name := "isMarked", desc := "(I)Z" } : Jvm.MethodName)) ∈ lw_all := lw_g (lw_at lw_m2 144 rfl) rfl
theorem q528 : (Jvm.Cond.code ({ cls := "VisitingHours$World", name := "isMarked", desc := "(I)Z" } : Jvm.MethodName) prog_16_method_7_code (2 : Nat) (Option.some Jvm.ClassFile.FieldType.boolean)) ∈ lw_all := lw_g (lw_at lw_m2 145 rfl) rfl
theorem q636 : (Jvm.Cond.instanceMethod ({ cls := "VisitingHours$World", name := "sees", desc := "(I)I" } : Jvm.MethodName)) ∈ lw_all := lw_g (lw_at lw_m3 13 rfl) rfl
theorem q637 : (Jvm.Cond.selects "VisitingHours$World" ({ cls := "VisitingHours$World", name := "sees", desc := "(I)I" } : Jvm.MethodName) ({ cls := "VisitingHours$World", name := "sees", desc := "(I)I" } : Jvm.MethodName)) ∈ lw_all := lw_g (lw_at lw_m3 14 rfl) rfl
theorem q638 : (Jvm.Cond.code ({ cls := "VisitingHours$World", name := "sees", desc := "(I)I" } : Jvm.MethodName) prog_16_method_9_code (4 : Nat) (Option.some Jvm.ClassFile.FieldType.int)) ∈ lw_all := lw_g (lw_at lw_m3 15 rfl) rfl
theorem q773 : (Jvm.Cond.instanceMethod ({ cls := "VisitingHours$World", name := "likens", desc := "(LVisitingHours$World;)LVisitingHours$World;" } : Jvm.MethodName)) ∈ lw_all := lw_g (lw_at lw_m3 150 rfl) rfl
theorem q774 : (Jvm.Cond.selects "VisitingHours$World" ({ cls := "VisitingHours$World", name := "likens", desc := "(LVisitingHours$World;)LVisitingHours$World;" } : Jvm.MethodName) ({ cls := "VisitingHours$World", name := "likens", desc := "(LVisitingHours$World;)LVisitingHours$World;" } : Jvm.MethodName)) ∈ lw_all := lw_g (lw_at lw_m3 151 rfl) rfl
theorem q775 : (Jvm.Cond.code ({ cls := "VisitingHours$World", name := "likens", desc := "(LVisitingHours$World;)LVisitingHours$World;" } : Jvm.MethodName) prog_16_method_2_code (3 : Nat) (Option.some (Jvm.ClassFile.FieldType.object "VisitingHours$World"))) ∈ lw_all := lw_g (lw_at lw_m3 152 rfl) rfl
theorem q776 : (Jvm.Cond.methodLink "VisitingHours$World" (79 : Nat) ({ cls := "VisitingHours$World", name := "row", desc := "([I[I)V" } : Jvm.MethodName)) ∈ lw_all := lw_g (lw_at lw_m3 153 rfl) rfl
theorem q777 : (Jvm.Cond.static ({ cls := "VisitingHours$World", name := "row", desc := "([I[I)V" } : Jvm.MethodName)) ∈ lw_all := lw_g (lw_at lw_m3 154 rfl) rfl
theorem q778 : (Jvm.Cond.code ({ cls := "VisitingHours$World", name := "row", desc := "([I[I)V" } : Jvm.MethodName) prog_16_method_3_code (2 : Nat) (Option.none : Option Jvm.ClassFile.FieldType)) ∈ lw_all := lw_g (lw_at lw_m3 155 rfl) rfl
theorem q779 : (Jvm.Cond.methodLink "VisitingHours$World" (86 : Nat) ({ cls := "java/lang/System", name := "arraycopy", desc := "(Ljava/lang/Object;ILjava/lang/Object;II)V" } : Jvm.MethodName)) ∈ lw_all := lw_g (lw_at lw_m3 156 rfl) rfl
theorem q797 : (Jvm.Cond.instanceMethod ({ cls := "VisitingHours$World", name := "bookings", desc := "()I" } : Jvm.MethodName)) ∈ lw_all := lw_g (lw_at lw_m3 174 rfl) rfl
theorem q798 : (Jvm.Cond.selects "VisitingHours$World" ({ cls := "VisitingHours$World", name := "bookings", desc := "()I" } : Jvm.MethodName) ({ cls := "VisitingHours$World", name := "bookings", desc := "()I" } : Jvm.MethodName)) ∈ lw_all := lw_g (lw_at lw_m3 175 rfl) rfl
theorem q799 : (Jvm.Cond.code ({ cls := "VisitingHours$World", name := "bookings", desc := "()I" } : Jvm.MethodName) prog_16_method_11_code (4 : Nat) (Option.some Jvm.ClassFile.FieldType.int)) ∈ lw_all := lw_g (lw_at lw_m3 176 rfl) rfl
theorem q801 : (Jvm.Cond.instanceMethod ({ cls := "VisitingHours$World", name := "gladness", desc := "()I" } : Jvm.MethodName)) ∈ lw_all := lw_g (lw_at lw_m3 178 rfl) rfl
theorem q802 : (Jvm.Cond.selects "VisitingHours$World" ({ cls := "VisitingHours$World", name := "gladness", desc := "()I" } : Jvm.MethodName) ({ cls := "VisitingHours$World", name := "gladness", desc := "()I" } : Jvm.MethodName)) ∈ lw_all := lw_g (lw_at lw_m3 179 rfl) rfl
theorem q803 : (Jvm.Cond.code ({ cls := "VisitingHours$World", name := "gladness", desc := "()I" } : Jvm.MethodName) prog_16_method_16_code (3 : Nat) (Option.some Jvm.ClassFile.FieldType.int)) ∈ lw_all := lw_g (lw_at lw_m3 180 rfl) rfl
theorem q1307 : (Jvm.Cond.instanceMethod ({ cls := "VisitingHours$World", name := "strikes", desc := "(I)V" } : Jvm.MethodName)) ∈ lw_all := lw_g (lw_at lw_m5 204 rfl) rfl
theorem q1308 : (Jvm.Cond.selects "VisitingHours$World" ({ cls := "VisitingHours$World", name := "strikes", desc := "(I)V" } : Jvm.MethodName) ({ cls := "VisitingHours$World", name := "strikes", desc := "(I)V" } : Jvm.MethodName)) ∈ lw_all := lw_g (lw_at lw_m5 205 rfl) rfl
theorem q1309 : (Jvm.Cond.code ({ cls := "VisitingHours$World", name := "strikes", desc := "(I)V" } : Jvm.MethodName) prog_16_method_13_code (2 : Nat) (Option.none : Option Jvm.ClassFile.FieldType)) ∈ lw_all := lw_g (lw_at lw_m5 206 rfl) rfl
theorem q1310 : (Jvm.Cond.methodLink "VisitingHours$World" (106 : Nat) ({ cls := "java/util/Arrays", name := "fill", desc := "([II)V" } : Jvm.MethodName)) ∈ lw_all := lw_g (lw_at lw_m5 207 rfl) rfl
theorem q1581 : (Jvm.Cond.selects "VisitingHours$World" ({ cls := "java/lang/Object", name := "getClass", desc := "()Ljava/lang/Class;" } : Jvm.MethodName) ({ cls := "java/lang/Object", name := "getClass", desc := "()Ljava/lang/Class;" } : Jvm.MethodName)) ∈ lw_all := lw_g (lw_at lw_m6 238 rfl) rfl
theorem q1702 : (Jvm.Cond.instanceMethod ({ cls := "VisitingHours$World", name := "free", desc := "(I)I" } : Jvm.MethodName)) ∈ lw_all := lw_g (lw_at lw_m7 119 rfl) rfl
theorem q1703 : (Jvm.Cond.selects "VisitingHours$World" ({ cls := "VisitingHours$World", name := "free", desc := "(I)I" } : Jvm.MethodName) ({ cls := "VisitingHours$World", name := "free", desc := "(I)I" } : Jvm.MethodName)) ∈ lw_all := lw_g (lw_at lw_m7 120 rfl) rfl
theorem q1704 : (Jvm.Cond.code ({ cls := "VisitingHours$World", name := "free", desc := "(I)I" } : Jvm.MethodName) prog_16_method_10_code (4 : Nat) (Option.some Jvm.ClassFile.FieldType.int)) ∈ lw_all := lw_g (lw_at lw_m7 121 rfl) rfl
theorem q1721 : (Jvm.Cond.instanceMethod ({ cls := "VisitingHours$World", name := "busy", desc := "(I)I" } : Jvm.MethodName)) ∈ lw_all := lw_g (lw_at lw_m7 138 rfl) rfl
theorem q1722 : (Jvm.Cond.selects "VisitingHours$World" ({ cls := "VisitingHours$World", name := "busy", desc := "(I)I" } : Jvm.MethodName) ({ cls := "VisitingHours$World", name := "busy", desc := "(I)I" } : Jvm.MethodName)) ∈ lw_all := lw_g (lw_at lw_m7 139 rfl) rfl
theorem q1723 : (Jvm.Cond.code ({ cls := "VisitingHours$World", name := "busy", desc := "(I)I" } : Jvm.MethodName) prog_16_method_8_code (5 : Nat) (Option.some Jvm.ClassFile.FieldType.int)) ∈ lw_all := lw_g (lw_at lw_m7 140 rfl) rfl
theorem q1850 : (Jvm.Cond.instanceMethod ({ cls := "VisitingHours$World", name := "draw", desc := "(I)I" } : Jvm.MethodName)) ∈ lw_all := lw_g (lw_at lw_m8 27 rfl) rfl
theorem q1851 : (Jvm.Cond.selects "VisitingHours$World" ({ cls := "VisitingHours$World", name := "draw", desc := "(I)I" } : Jvm.MethodName) ({ cls := "VisitingHours$World", name := "draw", desc := "(I)I" } : Jvm.MethodName)) ∈ lw_all := lw_g (lw_at lw_m8 28 rfl) rfl
theorem q1852 : (Jvm.Cond.code ({ cls := "VisitingHours$World", name := "draw", desc := "(I)I" } : Jvm.MethodName) prog_16_method_4_code (2 : Nat) (Option.some Jvm.ClassFile.FieldType.int)) ∈ lw_all := lw_g (lw_at lw_m8 29 rfl) rfl
theorem q1853 : (Jvm.Cond.constant "VisitingHours$World" (92 : Nat) (1103515245 : Int32)) ∈ lw_all := lw_g (lw_at lw_m8 30 rfl) rfl
theorem q1860 : (Jvm.Cond.instanceMethod ({ cls := "VisitingHours$World", name := "tells", desc := "(IIIII)V" } : Jvm.MethodName)) ∈ lw_all := lw_g (lw_at lw_m8 37 rfl) rfl
theorem q1861 : (Jvm.Cond.selects "VisitingHours$World" ({ cls := "VisitingHours$World", name := "tells", desc := "(IIIII)V" } : Jvm.MethodName) ({ cls := "VisitingHours$World", name := "tells", desc := "(IIIII)V" } : Jvm.MethodName)) ∈ lw_all := lw_g (lw_at lw_m8 38 rfl) rfl
theorem q1862 : (Jvm.Cond.code ({ cls := "VisitingHours$World", name := "tells", desc := "(IIIII)V" } : Jvm.MethodName) prog_16_method_12_code (6 : Nat) (Option.none : Option Jvm.ClassFile.FieldType)) ∈ lw_all := lw_g (lw_at lw_m8 39 rfl) rfl
theorem q1863 : (Jvm.Cond.methodLink "VisitingHours$World" (100 : Nat) ({ cls := "java/lang/Math", name := "min", desc := "(II)I" } : Jvm.MethodName)) ∈ lw_all := lw_g (lw_at lw_m8 40 rfl) rfl
theorem q1865 : (Jvm.Cond.instanceMethod ({ cls := "VisitingHours$World", name := "settles", desc := "(IZZ)V" } : Jvm.MethodName)) ∈ lw_all := lw_g (lw_at lw_m8 42 rfl) rfl
theorem q1866 : (Jvm.Cond.selects "VisitingHours$World" ({ cls := "VisitingHours$World", name := "settles", desc := "(IZZ)V" } : Jvm.MethodName) ({ cls := "VisitingHours$World", name := "settles", desc := "(IZZ)V" } : Jvm.MethodName)) ∈ lw_all := lw_g (lw_at lw_m8 43 rfl) rfl
theorem q1867 : (Jvm.Cond.code ({ cls := "VisitingHours$World", name := "settles", desc := "(IZZ)V" } : Jvm.MethodName) prog_16_method_14_code (4 : Nat) (Option.none : Option Jvm.ClassFile.FieldType)) ∈ lw_all := lw_g (lw_at lw_m8 44 rfl) rfl
theorem q1868 : (Jvm.Cond.methodLink "VisitingHours$World" (112 : Nat) ({ cls := "VisitingHours$World", name := "strikes", desc := "(I)V" } : Jvm.MethodName)) ∈ lw_all := lw_g (lw_at lw_m8 45 rfl) rfl
theorem q1869 : (Jvm.Cond.methodLink "VisitingHours$World" (116 : Nat) ({ cls := "VisitingHours$World", name := "tells", desc := "(IIIII)V" } : Jvm.MethodName)) ∈ lw_all := lw_g (lw_at lw_m8 46 rfl) rfl
theorem q1871 : (Jvm.Cond.instanceMethod ({ cls := "VisitingHours$World", name := "ends", desc := "()V" } : Jvm.MethodName)) ∈ lw_all := lw_g (lw_at lw_m8 48 rfl) rfl
theorem q1872 : (Jvm.Cond.selects "VisitingHours$World" ({ cls := "VisitingHours$World", name := "ends", desc := "()V" } : Jvm.MethodName) ({ cls := "VisitingHours$World", name := "ends", desc := "()V" } : Jvm.MethodName)) ∈ lw_all := lw_g (lw_at lw_m8 49 rfl) rfl
theorem q1873 : (Jvm.Cond.code ({ cls := "VisitingHours$World", name := "ends", desc := "()V" } : Jvm.MethodName) prog_16_method_15_code (1 : Nat) (Option.none : Option Jvm.ClassFile.FieldType)) ∈ lw_all := lw_g (lw_at lw_m8 50 rfl) rfl
theorem q2803 : (Jvm.Cond.castable "VisitingHours$World" "java/lang/Object") ∈ lw_tbl := lw_at lw_m12 20 rfl
theorem in_X2 : ∀ w ∈ wsX20, w ∈ lw_all := lw_in wsX20 [251, 253, 255, 257, 259, 261, 263, 265, 267, 269, 271, 273, 275, 277, 279, 281, 283, 285, 287, 289, 291, 293] (by decide +kernel) (by decide +kernel)
