/-! VisitingHoursModel -/
set_option maxRecDepth 100000
def RX6 : String := "VisitingHoursModel"
def TX6 : u_T := fun k => match k with
  | 0 => ("VisitingHoursModel", "thrown", "I", false)
  | 1 => ("VisitingHoursModel", "m", "[I", true)
  | 2 => ("VisitingHoursModel", "kept", "[I", true)
  | 3 => ("VisitingHoursModel", "hasImage", "Z", false)
  | 4 => ("VisitingHoursModel", "aside", "[I", true)
  | 5 => ("VisitingHoursModel", "acts", "[I", true)
  | 6 => ("VisitingHoursModel", "acted", "I", false)
  | 7 => ("VisitingHoursModel", "tape", "[I", true)
  | 8 => ("VisitingHoursModel", "taped", "I", false)
  | 9 => ("VisitingHoursModel", "base", "I", false)
  | 10 => ("VisitingHoursModel", "end", "I", false)
  | 11 => ("VisitingHoursModel", "at", "I", false)
  | 12 => ("VisitingHoursModel", "fault", "I", false)
  | 13 => ("VisitingHoursModel", "deep", "I", false)
  | 14 => ("VisitingHoursModel", "fact", "[I", true)
  | 15 => ("VisitingHoursModel", "isMarked", "Z", false)
  | 16 => ("VisitingHoursModel", "isExpected", "Z", false)
  | 17 => ("VisitingHoursModel", "glad", "I", false)
  | 18 => ("VisitingHoursModel", "hasAdmit", "Z", false)
  | 19 => ("VisitingHoursModel", "admits", "Z", false)
  | 20 => ("VisitingHoursModel", "settled", "I", false)
  | 21 => ("VisitingHoursModel", "guestOf", "[I", true)
  | 22 => ("VisitingHoursModel", "hostOf", "[I", true)
  | 23 => ("VisitingHoursModel", "refused", "[I", true)
  | 24 => ("VisitingHoursModel", "best", "[I", true)
  | 25 => ("VisitingHoursModel", "wide", "[I", true)
  | 26 => ("VisitingHoursModel", "fits", "[Z", true)
  | _ => ("VisitingHoursModel", "can", "[Z", true)
def tyX6 : Nat → FieldType := fun k => match k with
  | 0 => .int
  | 1 => .array .int
  | 2 => .array .int
  | 3 => .boolean
  | 4 => .array .int
  | 5 => .array .int
  | 6 => .int
  | 7 => .array .int
  | 8 => .int
  | 9 => .int
  | 10 => .int
  | 11 => .int
  | 12 => .int
  | 13 => .int
  | 14 => .array .int
  | 15 => .boolean
  | 16 => .boolean
  | 17 => .int
  | 18 => .boolean
  | 19 => .boolean
  | 20 => .int
  | 21 => .array .int
  | 22 => .array .int
  | 23 => .array .int
  | 24 => .array .int
  | 25 => .array .int
  | 26 => .array .boolean
  | _ => .array .boolean
abbrev wsX60 : List Cond := u_ws RX6 TX6 28
set_option maxRecDepth 100000 in
theorem nmX6 : ∀ a, a < 28 → ∀ b, b < 28 → a ≠ b → (TX6 a).2.1 ≠ (TX6 b).2.1 := by decide +kernel
set_option maxRecDepth 100000 in
theorem tyX6_ok : ∀ k, k < 28 → parseFieldDescriptor (TX6 k).2.2.1 = some (tyX6 k) := by decide +kernel
abbrev cX6_init : ByteArray := prog_19_method_1_code
def yX6_init : MethodName := ⟨RX6, "<init>", "()V"⟩
def dkwX6_init_7 : List UInt8 := [27, 96, 8, 79, 42, 180, 0, 7, 17, 0, 195, 27, 96, 2, 79, 132, 1, 1, 167, 255, 215, 177]
abbrev dktX6_init_7 : List UInt8 := dkwX6_init_7 ++ []
def dkwX6_init_6 : List UInt8 := [60, 27, 16, 64, 162, 0, 41, 42, 180, 0, 7, 16, 67, 27, 96, 8, 79, 42, 180, 0, 7, 17, 0, 131]
abbrev dktX6_init_6 : List UInt8 := dkwX6_init_6 ++ dktX6_init_7
def dkwX6_init_5 : List UInt8 := [17, 9, 0, 188, 4, 181, 0, 51, 42, 180, 0, 7, 4, 2, 79, 42, 180, 0, 7, 16, 10, 4, 79, 3]
abbrev dktX6_init_5 : List UInt8 := dkwX6_init_5 ++ dktX6_init_6
def dkwX6_init_4 : List UInt8 := [181, 0, 41, 42, 17, 9, 0, 188, 10, 181, 0, 44, 42, 17, 16, 0, 188, 4, 181, 0, 47, 42]
abbrev dktX6_init_4 : List UInt8 := dkwX6_init_4 ++ dktX6_init_5
def dkwX6_init_3 : List UInt8 := [42, 16, 8, 188, 10, 181, 0, 35, 42, 16, 8, 188, 10, 181, 0, 38, 42, 17, 1, 0, 188, 10]
abbrev dktX6_init_3 : List UInt8 := dkwX6_init_3 ++ dktX6_init_4
def dkwX6_init_2 : List UInt8 := [181, 0, 22, 42, 2, 181, 0, 25, 42, 16, 7, 188, 10, 181, 0, 29, 42, 16, 8, 188, 10, 181, 0, 32]
abbrev dktX6_init_2 : List UInt8 := dkwX6_init_2 ++ dktX6_init_3
def dkwX6_init_1 : List UInt8 := [17, 2, 107, 188, 10, 181, 0, 16, 42, 17, 29, 4, 188, 10, 181, 0, 19, 42, 17, 1, 144, 188, 10]
abbrev dktX6_init_1 : List UInt8 := dkwX6_init_1 ++ dktX6_init_2
def dkwX6_init_0 : List UInt8 := [42, 183, 0, 1, 42, 17, 3, 251, 188, 10, 181, 0, 7, 42, 17, 3, 251, 188, 10, 181, 0, 13, 42]
abbrev dktX6_init_0 : List UInt8 := dkwX6_init_0 ++ dktX6_init_1
theorem dksX6_init_0 : cX6_init.data.toList.drop 0 = dktX6_init_0 := by decide +kernel
theorem dksX6_init_1 : cX6_init.data.toList.drop 23 = dktX6_init_1 := dk_seg dksX6_init_0 23 rfl rfl
theorem dksX6_init_2 : cX6_init.data.toList.drop 46 = dktX6_init_2 := dk_seg dksX6_init_1 23 rfl rfl
theorem dksX6_init_3 : cX6_init.data.toList.drop 70 = dktX6_init_3 := dk_seg dksX6_init_2 24 rfl rfl
theorem dksX6_init_4 : cX6_init.data.toList.drop 92 = dktX6_init_4 := dk_seg dksX6_init_3 22 rfl rfl
theorem dksX6_init_5 : cX6_init.data.toList.drop 114 = dktX6_init_5 := dk_seg dksX6_init_4 22 rfl rfl
theorem dksX6_init_6 : cX6_init.data.toList.drop 138 = dktX6_init_6 := dk_seg dksX6_init_5 24 rfl rfl
theorem dksX6_init_7 : cX6_init.data.toList.drop 162 = dktX6_init_7 := dk_seg dksX6_init_6 24 rfl rfl
theorem dX6_init_0 : decode cX6_init 0 = .ok (.aload_n 0, 1) := dk_42 (dk_at dksX6_init_0 0 rfl rfl)
theorem dX6_init_1 : decode cX6_init 1 = .ok (.invokespecial 1, 3) := dk_183 0 1 (dk_at dksX6_init_0 1 rfl rfl)
theorem dX6_init_4 : decode cX6_init 4 = .ok (.aload_n 0, 1) := dk_42 (dk_at dksX6_init_0 4 rfl rfl)
theorem dX6_init_5 : decode cX6_init 5 = .ok (.sipush 1019, 3) := dk_17 3 251 (dk_at dksX6_init_0 5 rfl rfl)
theorem dX6_init_8 : decode cX6_init 8 = .ok (.newarray .int, 2) := dk_188_10 (dk_at dksX6_init_0 8 rfl rfl)
theorem dX6_init_10 : decode cX6_init 10 = .ok (.putfield 7, 3) := dk_181 0 7 (dk_at dksX6_init_0 10 rfl rfl)
theorem dX6_init_13 : decode cX6_init 13 = .ok (.aload_n 0, 1) := dk_42 (dk_at dksX6_init_0 13 rfl rfl)
theorem dX6_init_14 : decode cX6_init 14 = .ok (.sipush 1019, 3) := dk_17 3 251 (dk_at dksX6_init_0 14 rfl rfl)
theorem dX6_init_17 : decode cX6_init 17 = .ok (.newarray .int, 2) := dk_188_10 (dk_at dksX6_init_0 17 rfl rfl)
theorem dX6_init_19 : decode cX6_init 19 = .ok (.putfield 13, 3) := dk_181 0 13 (dk_at dksX6_init_0 19 rfl rfl)
theorem dX6_init_22 : decode cX6_init 22 = .ok (.aload_n 0, 1) := dk_42 (dk_at dksX6_init_0 22 rfl rfl)
theorem dX6_init_23 : decode cX6_init 23 = .ok (.sipush 619, 3) := dk_17 2 107 (dk_at dksX6_init_1 0 rfl rfl)
theorem dX6_init_26 : decode cX6_init 26 = .ok (.newarray .int, 2) := dk_188_10 (dk_at dksX6_init_1 3 rfl rfl)
theorem dX6_init_28 : decode cX6_init 28 = .ok (.putfield 16, 3) := dk_181 0 16 (dk_at dksX6_init_1 5 rfl rfl)
theorem dX6_init_31 : decode cX6_init 31 = .ok (.aload_n 0, 1) := dk_42 (dk_at dksX6_init_1 8 rfl rfl)
theorem dX6_init_32 : decode cX6_init 32 = .ok (.sipush 7428, 3) := dk_17 29 4 (dk_at dksX6_init_1 9 rfl rfl)
theorem dX6_init_35 : decode cX6_init 35 = .ok (.newarray .int, 2) := dk_188_10 (dk_at dksX6_init_1 12 rfl rfl)
theorem dX6_init_37 : decode cX6_init 37 = .ok (.putfield 19, 3) := dk_181 0 19 (dk_at dksX6_init_1 14 rfl rfl)
theorem dX6_init_40 : decode cX6_init 40 = .ok (.aload_n 0, 1) := dk_42 (dk_at dksX6_init_1 17 rfl rfl)
theorem dX6_init_41 : decode cX6_init 41 = .ok (.sipush 400, 3) := dk_17 1 144 (dk_at dksX6_init_1 18 rfl rfl)
theorem dX6_init_44 : decode cX6_init 44 = .ok (.newarray .int, 2) := dk_188_10 (dk_at dksX6_init_1 21 rfl rfl)
theorem dX6_init_46 : decode cX6_init 46 = .ok (.putfield 22, 3) := dk_181 0 22 (dk_at dksX6_init_2 0 rfl rfl)
theorem dX6_init_49 : decode cX6_init 49 = .ok (.aload_n 0, 1) := dk_42 (dk_at dksX6_init_2 3 rfl rfl)
theorem dX6_init_50 : decode cX6_init 50 = .ok (.iconst (-1), 1) := dk_2 (dk_at dksX6_init_2 4 rfl rfl)
theorem dX6_init_51 : decode cX6_init 51 = .ok (.putfield 25, 3) := dk_181 0 25 (dk_at dksX6_init_2 5 rfl rfl)
theorem dX6_init_54 : decode cX6_init 54 = .ok (.aload_n 0, 1) := dk_42 (dk_at dksX6_init_2 8 rfl rfl)
theorem dX6_init_55 : decode cX6_init 55 = .ok (.bipush 7, 2) := dk_16 7 (dk_at dksX6_init_2 9 rfl rfl)
theorem dX6_init_57 : decode cX6_init 57 = .ok (.newarray .int, 2) := dk_188_10 (dk_at dksX6_init_2 11 rfl rfl)
theorem dX6_init_59 : decode cX6_init 59 = .ok (.putfield 29, 3) := dk_181 0 29 (dk_at dksX6_init_2 13 rfl rfl)
theorem dX6_init_62 : decode cX6_init 62 = .ok (.aload_n 0, 1) := dk_42 (dk_at dksX6_init_2 16 rfl rfl)
theorem dX6_init_63 : decode cX6_init 63 = .ok (.bipush 8, 2) := dk_16 8 (dk_at dksX6_init_2 17 rfl rfl)
theorem dX6_init_65 : decode cX6_init 65 = .ok (.newarray .int, 2) := dk_188_10 (dk_at dksX6_init_2 19 rfl rfl)
theorem dX6_init_67 : decode cX6_init 67 = .ok (.putfield 32, 3) := dk_181 0 32 (dk_at dksX6_init_2 21 rfl rfl)
theorem dX6_init_70 : decode cX6_init 70 = .ok (.aload_n 0, 1) := dk_42 (dk_at dksX6_init_3 0 rfl rfl)
theorem dX6_init_71 : decode cX6_init 71 = .ok (.bipush 8, 2) := dk_16 8 (dk_at dksX6_init_3 1 rfl rfl)
theorem dX6_init_73 : decode cX6_init 73 = .ok (.newarray .int, 2) := dk_188_10 (dk_at dksX6_init_3 3 rfl rfl)
theorem dX6_init_75 : decode cX6_init 75 = .ok (.putfield 35, 3) := dk_181 0 35 (dk_at dksX6_init_3 5 rfl rfl)
theorem dX6_init_78 : decode cX6_init 78 = .ok (.aload_n 0, 1) := dk_42 (dk_at dksX6_init_3 8 rfl rfl)
theorem dX6_init_79 : decode cX6_init 79 = .ok (.bipush 8, 2) := dk_16 8 (dk_at dksX6_init_3 9 rfl rfl)
theorem dX6_init_81 : decode cX6_init 81 = .ok (.newarray .int, 2) := dk_188_10 (dk_at dksX6_init_3 11 rfl rfl)
theorem dX6_init_83 : decode cX6_init 83 = .ok (.putfield 38, 3) := dk_181 0 38 (dk_at dksX6_init_3 13 rfl rfl)
theorem dX6_init_86 : decode cX6_init 86 = .ok (.aload_n 0, 1) := dk_42 (dk_at dksX6_init_3 16 rfl rfl)
theorem dX6_init_87 : decode cX6_init 87 = .ok (.sipush 256, 3) := dk_17 1 0 (dk_at dksX6_init_3 17 rfl rfl)
theorem dX6_init_90 : decode cX6_init 90 = .ok (.newarray .int, 2) := dk_188_10 (dk_at dksX6_init_3 20 rfl rfl)
theorem dX6_init_92 : decode cX6_init 92 = .ok (.putfield 41, 3) := dk_181 0 41 (dk_at dksX6_init_4 0 rfl rfl)
theorem dX6_init_95 : decode cX6_init 95 = .ok (.aload_n 0, 1) := dk_42 (dk_at dksX6_init_4 3 rfl rfl)
theorem dX6_init_96 : decode cX6_init 96 = .ok (.sipush 2304, 3) := dk_17 9 0 (dk_at dksX6_init_4 4 rfl rfl)
theorem dX6_init_99 : decode cX6_init 99 = .ok (.newarray .int, 2) := dk_188_10 (dk_at dksX6_init_4 7 rfl rfl)
theorem dX6_init_101 : decode cX6_init 101 = .ok (.putfield 44, 3) := dk_181 0 44 (dk_at dksX6_init_4 9 rfl rfl)
theorem dX6_init_104 : decode cX6_init 104 = .ok (.aload_n 0, 1) := dk_42 (dk_at dksX6_init_4 12 rfl rfl)
theorem dX6_init_105 : decode cX6_init 105 = .ok (.sipush 4096, 3) := dk_17 16 0 (dk_at dksX6_init_4 13 rfl rfl)
theorem dX6_init_108 : decode cX6_init 108 = .ok (.newarray .boolean, 2) := dk_188_4 (dk_at dksX6_init_4 16 rfl rfl)
theorem dX6_init_110 : decode cX6_init 110 = .ok (.putfield 47, 3) := dk_181 0 47 (dk_at dksX6_init_4 18 rfl rfl)
theorem dX6_init_113 : decode cX6_init 113 = .ok (.aload_n 0, 1) := dk_42 (dk_at dksX6_init_4 21 rfl rfl)
theorem dX6_init_114 : decode cX6_init 114 = .ok (.sipush 2304, 3) := dk_17 9 0 (dk_at dksX6_init_5 0 rfl rfl)
theorem dX6_init_117 : decode cX6_init 117 = .ok (.newarray .boolean, 2) := dk_188_4 (dk_at dksX6_init_5 3 rfl rfl)
theorem dX6_init_119 : decode cX6_init 119 = .ok (.putfield 51, 3) := dk_181 0 51 (dk_at dksX6_init_5 5 rfl rfl)
theorem dX6_init_122 : decode cX6_init 122 = .ok (.aload_n 0, 1) := dk_42 (dk_at dksX6_init_5 8 rfl rfl)
theorem dX6_init_123 : decode cX6_init 123 = .ok (.getfield 7, 3) := dk_180 0 7 (dk_at dksX6_init_5 9 rfl rfl)
theorem dX6_init_126 : decode cX6_init 126 = .ok (.iconst 1, 1) := dk_4 (dk_at dksX6_init_5 12 rfl rfl)
theorem dX6_init_127 : decode cX6_init 127 = .ok (.iconst (-1), 1) := dk_2 (dk_at dksX6_init_5 13 rfl rfl)
theorem dX6_init_128 : decode cX6_init 128 = .ok (.iastore, 1) := dk_79 (dk_at dksX6_init_5 14 rfl rfl)
theorem dX6_init_129 : decode cX6_init 129 = .ok (.aload_n 0, 1) := dk_42 (dk_at dksX6_init_5 15 rfl rfl)
theorem dX6_init_130 : decode cX6_init 130 = .ok (.getfield 7, 3) := dk_180 0 7 (dk_at dksX6_init_5 16 rfl rfl)
theorem dX6_init_133 : decode cX6_init 133 = .ok (.bipush 10, 2) := dk_16 10 (dk_at dksX6_init_5 19 rfl rfl)
theorem dX6_init_135 : decode cX6_init 135 = .ok (.iconst 1, 1) := dk_4 (dk_at dksX6_init_5 21 rfl rfl)
theorem dX6_init_136 : decode cX6_init 136 = .ok (.iastore, 1) := dk_79 (dk_at dksX6_init_5 22 rfl rfl)
theorem dX6_init_137 : decode cX6_init 137 = .ok (.iconst 0, 1) := dk_3 (dk_at dksX6_init_5 23 rfl rfl)
theorem dX6_init_138 : decode cX6_init 138 = .ok (.istore_n 1, 1) := dk_60 (dk_at dksX6_init_6 0 rfl rfl)
theorem dX6_init_139 : decode cX6_init 139 = .ok (.iload_n 1, 1) := dk_27 (dk_at dksX6_init_6 1 rfl rfl)
theorem dX6_init_140 : decode cX6_init 140 = .ok (.bipush 64, 2) := dk_16 64 (dk_at dksX6_init_6 2 rfl rfl)
theorem dX6_init_142 : decode cX6_init 142 = .ok (.if_icmp .ge 41, 3) := dk_162 0 41 (dk_at dksX6_init_6 4 rfl rfl)
theorem dX6_init_145 : decode cX6_init 145 = .ok (.aload_n 0, 1) := dk_42 (dk_at dksX6_init_6 7 rfl rfl)
theorem dX6_init_146 : decode cX6_init 146 = .ok (.getfield 7, 3) := dk_180 0 7 (dk_at dksX6_init_6 8 rfl rfl)
theorem dX6_init_149 : decode cX6_init 149 = .ok (.bipush 67, 2) := dk_16 67 (dk_at dksX6_init_6 11 rfl rfl)
theorem dX6_init_151 : decode cX6_init 151 = .ok (.iload_n 1, 1) := dk_27 (dk_at dksX6_init_6 13 rfl rfl)
theorem dX6_init_152 : decode cX6_init 152 = .ok (.iadd, 1) := dk_96 (dk_at dksX6_init_6 14 rfl rfl)
theorem dX6_init_153 : decode cX6_init 153 = .ok (.iconst 5, 1) := dk_8 (dk_at dksX6_init_6 15 rfl rfl)
theorem dX6_init_154 : decode cX6_init 154 = .ok (.iastore, 1) := dk_79 (dk_at dksX6_init_6 16 rfl rfl)
theorem dX6_init_155 : decode cX6_init 155 = .ok (.aload_n 0, 1) := dk_42 (dk_at dksX6_init_6 17 rfl rfl)
theorem dX6_init_156 : decode cX6_init 156 = .ok (.getfield 7, 3) := dk_180 0 7 (dk_at dksX6_init_6 18 rfl rfl)
theorem dX6_init_159 : decode cX6_init 159 = .ok (.sipush 131, 3) := dk_17 0 131 (dk_at dksX6_init_6 21 rfl rfl)
theorem dX6_init_162 : decode cX6_init 162 = .ok (.iload_n 1, 1) := dk_27 (dk_at dksX6_init_7 0 rfl rfl)
theorem dX6_init_163 : decode cX6_init 163 = .ok (.iadd, 1) := dk_96 (dk_at dksX6_init_7 1 rfl rfl)
theorem dX6_init_164 : decode cX6_init 164 = .ok (.iconst 5, 1) := dk_8 (dk_at dksX6_init_7 2 rfl rfl)
theorem dX6_init_165 : decode cX6_init 165 = .ok (.iastore, 1) := dk_79 (dk_at dksX6_init_7 3 rfl rfl)
theorem dX6_init_166 : decode cX6_init 166 = .ok (.aload_n 0, 1) := dk_42 (dk_at dksX6_init_7 4 rfl rfl)
theorem dX6_init_167 : decode cX6_init 167 = .ok (.getfield 7, 3) := dk_180 0 7 (dk_at dksX6_init_7 5 rfl rfl)
theorem dX6_init_170 : decode cX6_init 170 = .ok (.sipush 195, 3) := dk_17 0 195 (dk_at dksX6_init_7 8 rfl rfl)
theorem dX6_init_173 : decode cX6_init 173 = .ok (.iload_n 1, 1) := dk_27 (dk_at dksX6_init_7 11 rfl rfl)
theorem dX6_init_174 : decode cX6_init 174 = .ok (.iadd, 1) := dk_96 (dk_at dksX6_init_7 12 rfl rfl)
theorem dX6_init_175 : decode cX6_init 175 = .ok (.iconst (-1), 1) := dk_2 (dk_at dksX6_init_7 13 rfl rfl)
theorem dX6_init_176 : decode cX6_init 176 = .ok (.iastore, 1) := dk_79 (dk_at dksX6_init_7 14 rfl rfl)
theorem dX6_init_177 : decode cX6_init 177 = .ok (.iinc 1 1, 3) := dk_132 1 1 (dk_at dksX6_init_7 15 rfl rfl)
theorem dX6_init_180 : decode cX6_init 180 = .ok (.goto (-41), 3) := dk_167 255 215 (dk_at dksX6_init_7 18 rfl rfl)
theorem dX6_init_183 : decode cX6_init 183 = .ok (.return_, 1) := dk_177 (dk_at dksX6_init_7 21 rfl rfl)
abbrev cX6_thrown : ByteArray := prog_19_method_2_code
def yX6_thrown : MethodName := ⟨RX6, "thrown", "()I"⟩
theorem dX6_thrown_0 : decode cX6_thrown 0 = .ok (.aload_n 0, 1) := by decide +kernel
theorem dX6_thrown_1 : decode cX6_thrown 1 = .ok (.getfield 54, 3) := by decide +kernel
theorem dX6_thrown_4 : decode cX6_thrown 4 = .ok (.ireturn, 1) := by decide +kernel
abbrev cX6_feed : ByteArray := prog_19_method_20_code
def yX6_feed : MethodName := ⟨RX6, "feed", "(IIIII)I"⟩
def dkwX6_feed_5 : List UInt8 := [167, 255, 162, 42, 180, 0, 81, 172]
abbrev dktX6_feed_5 : List UInt8 := dkwX6_feed_5 ++ []
def dkwX6_feed_4 : List UInt8 := [112, 104, 100, 124, 17, 0, 255, 126, 79, 42, 89, 180, 0, 81, 4, 96, 181, 0, 81, 132, 6, 1]
abbrev dktX6_feed_4 : List UInt8 := dkwX6_feed_4 ++ dktX6_feed_5
def dkwX6_feed_3 : List UInt8 := [167, 0, 5, 21, 5, 54, 7, 42, 180, 0, 22, 42, 180, 0, 81, 21, 7, 16, 24, 16, 8, 21, 6, 7]
abbrev dktX6_feed_3 : List UInt8 := dkwX6_feed_3 ++ dktX6_feed_4
def dkwX6_feed_2 : List UInt8 := [28, 167, 0, 28, 21, 6, 16, 12, 162, 0, 7, 29, 167, 0, 17, 21, 6, 16, 16, 162, 0, 8, 21, 4]
abbrev dktX6_feed_2 : List UInt8 := dkwX6_feed_2 ++ dktX6_feed_3
def dkwX6_feed_1 : List UInt8 := [21, 6, 16, 20, 162, 0, 93, 21, 6, 7, 162, 0, 7, 27, 167, 0, 39, 21, 6, 16, 8, 162, 0, 7]
abbrev dktX6_feed_1 : List UInt8 := dkwX6_feed_1 ++ dktX6_feed_2
def dkwX6_feed_0 : List UInt8 := [42, 3, 181, 0, 54, 42, 180, 0, 81, 16, 20, 96, 17, 1, 144, 164, 0, 5, 2, 172, 3, 54, 6]
abbrev dktX6_feed_0 : List UInt8 := dkwX6_feed_0 ++ dktX6_feed_1
theorem dksX6_feed_0 : cX6_feed.data.toList.drop 0 = dktX6_feed_0 := by decide +kernel
theorem dksX6_feed_1 : cX6_feed.data.toList.drop 23 = dktX6_feed_1 := dk_seg dksX6_feed_0 23 rfl rfl
theorem dksX6_feed_2 : cX6_feed.data.toList.drop 47 = dktX6_feed_2 := dk_seg dksX6_feed_1 24 rfl rfl
theorem dksX6_feed_3 : cX6_feed.data.toList.drop 71 = dktX6_feed_3 := dk_seg dksX6_feed_2 24 rfl rfl
theorem dksX6_feed_4 : cX6_feed.data.toList.drop 95 = dktX6_feed_4 := dk_seg dksX6_feed_3 24 rfl rfl
theorem dksX6_feed_5 : cX6_feed.data.toList.drop 117 = dktX6_feed_5 := dk_seg dksX6_feed_4 22 rfl rfl
theorem dX6_feed_0 : decode cX6_feed 0 = .ok (.aload_n 0, 1) := dk_42 (dk_at dksX6_feed_0 0 rfl rfl)
theorem dX6_feed_1 : decode cX6_feed 1 = .ok (.iconst 0, 1) := dk_3 (dk_at dksX6_feed_0 1 rfl rfl)
theorem dX6_feed_2 : decode cX6_feed 2 = .ok (.putfield 54, 3) := dk_181 0 54 (dk_at dksX6_feed_0 2 rfl rfl)
theorem dX6_feed_5 : decode cX6_feed 5 = .ok (.aload_n 0, 1) := dk_42 (dk_at dksX6_feed_0 5 rfl rfl)
theorem dX6_feed_6 : decode cX6_feed 6 = .ok (.getfield 81, 3) := dk_180 0 81 (dk_at dksX6_feed_0 6 rfl rfl)
theorem dX6_feed_9 : decode cX6_feed 9 = .ok (.bipush 20, 2) := dk_16 20 (dk_at dksX6_feed_0 9 rfl rfl)
theorem dX6_feed_11 : decode cX6_feed 11 = .ok (.iadd, 1) := dk_96 (dk_at dksX6_feed_0 11 rfl rfl)
theorem dX6_feed_12 : decode cX6_feed 12 = .ok (.sipush 400, 3) := dk_17 1 144 (dk_at dksX6_feed_0 12 rfl rfl)
theorem dX6_feed_15 : decode cX6_feed 15 = .ok (.if_icmp .le 5, 3) := dk_164 0 5 (dk_at dksX6_feed_0 15 rfl rfl)
theorem dX6_feed_18 : decode cX6_feed 18 = .ok (.iconst (-1), 1) := dk_2 (dk_at dksX6_feed_0 18 rfl rfl)
theorem dX6_feed_19 : decode cX6_feed 19 = .ok (.ireturn, 1) := dk_172 (dk_at dksX6_feed_0 19 rfl rfl)
theorem dX6_feed_20 : decode cX6_feed 20 = .ok (.iconst 0, 1) := dk_3 (dk_at dksX6_feed_0 20 rfl rfl)
theorem dX6_feed_21 : decode cX6_feed 21 = .ok (.istore 6, 2) := dk_54 6 (dk_at dksX6_feed_0 21 rfl rfl)
theorem dX6_feed_23 : decode cX6_feed 23 = .ok (.iload 6, 2) := dk_21 6 (dk_at dksX6_feed_1 0 rfl rfl)
theorem dX6_feed_25 : decode cX6_feed 25 = .ok (.bipush 20, 2) := dk_16 20 (dk_at dksX6_feed_1 2 rfl rfl)
theorem dX6_feed_27 : decode cX6_feed 27 = .ok (.if_icmp .ge 93, 3) := dk_162 0 93 (dk_at dksX6_feed_1 4 rfl rfl)
theorem dX6_feed_30 : decode cX6_feed 30 = .ok (.iload 6, 2) := dk_21 6 (dk_at dksX6_feed_1 7 rfl rfl)
theorem dX6_feed_32 : decode cX6_feed 32 = .ok (.iconst 4, 1) := dk_7 (dk_at dksX6_feed_1 9 rfl rfl)
theorem dX6_feed_33 : decode cX6_feed 33 = .ok (.if_icmp .ge 7, 3) := dk_162 0 7 (dk_at dksX6_feed_1 10 rfl rfl)
theorem dX6_feed_36 : decode cX6_feed 36 = .ok (.iload_n 1, 1) := dk_27 (dk_at dksX6_feed_1 13 rfl rfl)
theorem dX6_feed_37 : decode cX6_feed 37 = .ok (.goto 39, 3) := dk_167 0 39 (dk_at dksX6_feed_1 14 rfl rfl)
theorem dX6_feed_40 : decode cX6_feed 40 = .ok (.iload 6, 2) := dk_21 6 (dk_at dksX6_feed_1 17 rfl rfl)
theorem dX6_feed_42 : decode cX6_feed 42 = .ok (.bipush 8, 2) := dk_16 8 (dk_at dksX6_feed_1 19 rfl rfl)
theorem dX6_feed_44 : decode cX6_feed 44 = .ok (.if_icmp .ge 7, 3) := dk_162 0 7 (dk_at dksX6_feed_1 21 rfl rfl)
theorem dX6_feed_47 : decode cX6_feed 47 = .ok (.iload_n 2, 1) := dk_28 (dk_at dksX6_feed_2 0 rfl rfl)
theorem dX6_feed_48 : decode cX6_feed 48 = .ok (.goto 28, 3) := dk_167 0 28 (dk_at dksX6_feed_2 1 rfl rfl)
theorem dX6_feed_51 : decode cX6_feed 51 = .ok (.iload 6, 2) := dk_21 6 (dk_at dksX6_feed_2 4 rfl rfl)
theorem dX6_feed_53 : decode cX6_feed 53 = .ok (.bipush 12, 2) := dk_16 12 (dk_at dksX6_feed_2 6 rfl rfl)
theorem dX6_feed_55 : decode cX6_feed 55 = .ok (.if_icmp .ge 7, 3) := dk_162 0 7 (dk_at dksX6_feed_2 8 rfl rfl)
theorem dX6_feed_58 : decode cX6_feed 58 = .ok (.iload_n 3, 1) := dk_29 (dk_at dksX6_feed_2 11 rfl rfl)
theorem dX6_feed_59 : decode cX6_feed 59 = .ok (.goto 17, 3) := dk_167 0 17 (dk_at dksX6_feed_2 12 rfl rfl)
theorem dX6_feed_62 : decode cX6_feed 62 = .ok (.iload 6, 2) := dk_21 6 (dk_at dksX6_feed_2 15 rfl rfl)
theorem dX6_feed_64 : decode cX6_feed 64 = .ok (.bipush 16, 2) := dk_16 16 (dk_at dksX6_feed_2 17 rfl rfl)
theorem dX6_feed_66 : decode cX6_feed 66 = .ok (.if_icmp .ge 8, 3) := dk_162 0 8 (dk_at dksX6_feed_2 19 rfl rfl)
theorem dX6_feed_69 : decode cX6_feed 69 = .ok (.iload 4, 2) := dk_21 4 (dk_at dksX6_feed_2 22 rfl rfl)
theorem dX6_feed_71 : decode cX6_feed 71 = .ok (.goto 5, 3) := dk_167 0 5 (dk_at dksX6_feed_3 0 rfl rfl)
theorem dX6_feed_74 : decode cX6_feed 74 = .ok (.iload 5, 2) := dk_21 5 (dk_at dksX6_feed_3 3 rfl rfl)
theorem dX6_feed_76 : decode cX6_feed 76 = .ok (.istore 7, 2) := dk_54 7 (dk_at dksX6_feed_3 5 rfl rfl)
theorem dX6_feed_78 : decode cX6_feed 78 = .ok (.aload_n 0, 1) := dk_42 (dk_at dksX6_feed_3 7 rfl rfl)
theorem dX6_feed_79 : decode cX6_feed 79 = .ok (.getfield 22, 3) := dk_180 0 22 (dk_at dksX6_feed_3 8 rfl rfl)
theorem dX6_feed_82 : decode cX6_feed 82 = .ok (.aload_n 0, 1) := dk_42 (dk_at dksX6_feed_3 11 rfl rfl)
theorem dX6_feed_83 : decode cX6_feed 83 = .ok (.getfield 81, 3) := dk_180 0 81 (dk_at dksX6_feed_3 12 rfl rfl)
theorem dX6_feed_86 : decode cX6_feed 86 = .ok (.iload 7, 2) := dk_21 7 (dk_at dksX6_feed_3 15 rfl rfl)
theorem dX6_feed_88 : decode cX6_feed 88 = .ok (.bipush 24, 2) := dk_16 24 (dk_at dksX6_feed_3 17 rfl rfl)
theorem dX6_feed_90 : decode cX6_feed 90 = .ok (.bipush 8, 2) := dk_16 8 (dk_at dksX6_feed_3 19 rfl rfl)
theorem dX6_feed_92 : decode cX6_feed 92 = .ok (.iload 6, 2) := dk_21 6 (dk_at dksX6_feed_3 21 rfl rfl)
theorem dX6_feed_94 : decode cX6_feed 94 = .ok (.iconst 4, 1) := dk_7 (dk_at dksX6_feed_3 23 rfl rfl)
theorem dX6_feed_95 : decode cX6_feed 95 = .ok (.irem, 1) := dk_112 (dk_at dksX6_feed_4 0 rfl rfl)
theorem dX6_feed_96 : decode cX6_feed 96 = .ok (.imul, 1) := dk_104 (dk_at dksX6_feed_4 1 rfl rfl)
theorem dX6_feed_97 : decode cX6_feed 97 = .ok (.isub, 1) := dk_100 (dk_at dksX6_feed_4 2 rfl rfl)
theorem dX6_feed_98 : decode cX6_feed 98 = .ok (.iushr, 1) := dk_124 (dk_at dksX6_feed_4 3 rfl rfl)
theorem dX6_feed_99 : decode cX6_feed 99 = .ok (.sipush 255, 3) := dk_17 0 255 (dk_at dksX6_feed_4 4 rfl rfl)
theorem dX6_feed_102 : decode cX6_feed 102 = .ok (.iand, 1) := dk_126 (dk_at dksX6_feed_4 7 rfl rfl)
theorem dX6_feed_103 : decode cX6_feed 103 = .ok (.iastore, 1) := dk_79 (dk_at dksX6_feed_4 8 rfl rfl)
theorem dX6_feed_104 : decode cX6_feed 104 = .ok (.aload_n 0, 1) := dk_42 (dk_at dksX6_feed_4 9 rfl rfl)
theorem dX6_feed_105 : decode cX6_feed 105 = .ok (.dup, 1) := dk_89 (dk_at dksX6_feed_4 10 rfl rfl)
theorem dX6_feed_106 : decode cX6_feed 106 = .ok (.getfield 81, 3) := dk_180 0 81 (dk_at dksX6_feed_4 11 rfl rfl)
theorem dX6_feed_109 : decode cX6_feed 109 = .ok (.iconst 1, 1) := dk_4 (dk_at dksX6_feed_4 14 rfl rfl)
theorem dX6_feed_110 : decode cX6_feed 110 = .ok (.iadd, 1) := dk_96 (dk_at dksX6_feed_4 15 rfl rfl)
theorem dX6_feed_111 : decode cX6_feed 111 = .ok (.putfield 81, 3) := dk_181 0 81 (dk_at dksX6_feed_4 16 rfl rfl)
theorem dX6_feed_114 : decode cX6_feed 114 = .ok (.iinc 6 1, 3) := dk_132 6 1 (dk_at dksX6_feed_4 19 rfl rfl)
theorem dX6_feed_117 : decode cX6_feed 117 = .ok (.goto (-94), 3) := dk_167 255 162 (dk_at dksX6_feed_5 0 rfl rfl)
theorem dX6_feed_120 : decode cX6_feed 120 = .ok (.aload_n 0, 1) := dk_42 (dk_at dksX6_feed_5 3 rfl rfl)
theorem dX6_feed_121 : decode cX6_feed 121 = .ok (.getfield 81, 3) := dk_180 0 81 (dk_at dksX6_feed_5 4 rfl rfl)
theorem dX6_feed_124 : decode cX6_feed 124 = .ok (.ireturn, 1) := dk_172 (dk_at dksX6_feed_5 7 rfl rfl)
abbrev cX6_end : ByteArray := prog_19_method_21_code
def yX6_end : MethodName := ⟨RX6, "end", "(I)Z"⟩
def dkwX6_end_1 : List UInt8 := [4, 172]
abbrev dktX6_end_1 : List UInt8 := dkwX6_end_1 ++ []
def dkwX6_end_0 : List UInt8 := [42, 3, 181, 0, 54, 27, 3, 42, 180, 0, 81, 184, 0, 57, 154, 0, 5, 3, 172, 42, 27, 181, 0, 81]
abbrev dktX6_end_0 : List UInt8 := dkwX6_end_0 ++ dktX6_end_1
theorem dksX6_end_0 : cX6_end.data.toList.drop 0 = dktX6_end_0 := by decide +kernel
theorem dksX6_end_1 : cX6_end.data.toList.drop 24 = dktX6_end_1 := dk_seg dksX6_end_0 24 rfl rfl
theorem dX6_end_0 : decode cX6_end 0 = .ok (.aload_n 0, 1) := dk_42 (dk_at dksX6_end_0 0 rfl rfl)
theorem dX6_end_1 : decode cX6_end 1 = .ok (.iconst 0, 1) := dk_3 (dk_at dksX6_end_0 1 rfl rfl)
theorem dX6_end_2 : decode cX6_end 2 = .ok (.putfield 54, 3) := dk_181 0 54 (dk_at dksX6_end_0 2 rfl rfl)
theorem dX6_end_5 : decode cX6_end 5 = .ok (.iload_n 1, 1) := dk_27 (dk_at dksX6_end_0 5 rfl rfl)
theorem dX6_end_6 : decode cX6_end 6 = .ok (.iconst 0, 1) := dk_3 (dk_at dksX6_end_0 6 rfl rfl)
theorem dX6_end_7 : decode cX6_end 7 = .ok (.aload_n 0, 1) := dk_42 (dk_at dksX6_end_0 7 rfl rfl)
theorem dX6_end_8 : decode cX6_end 8 = .ok (.getfield 81, 3) := dk_180 0 81 (dk_at dksX6_end_0 8 rfl rfl)
theorem dX6_end_11 : decode cX6_end 11 = .ok (.invokestatic 57, 3) := dk_184 0 57 (dk_at dksX6_end_0 11 rfl rfl)
theorem dX6_end_14 : decode cX6_end 14 = .ok (.ifCond .ne 5, 3) := dk_154 0 5 (dk_at dksX6_end_0 14 rfl rfl)
theorem dX6_end_17 : decode cX6_end 17 = .ok (.iconst 0, 1) := dk_3 (dk_at dksX6_end_0 17 rfl rfl)
theorem dX6_end_18 : decode cX6_end 18 = .ok (.ireturn, 1) := dk_172 (dk_at dksX6_end_0 18 rfl rfl)
theorem dX6_end_19 : decode cX6_end 19 = .ok (.aload_n 0, 1) := dk_42 (dk_at dksX6_end_0 19 rfl rfl)
theorem dX6_end_20 : decode cX6_end 20 = .ok (.iload_n 1, 1) := dk_27 (dk_at dksX6_end_0 20 rfl rfl)
theorem dX6_end_21 : decode cX6_end 21 = .ok (.putfield 81, 3) := dk_181 0 81 (dk_at dksX6_end_0 21 rfl rfl)
theorem dX6_end_24 : decode cX6_end 24 = .ok (.iconst 1, 1) := dk_4 (dk_at dksX6_end_1 0 rfl rfl)
theorem dX6_end_25 : decode cX6_end 25 = .ok (.ireturn, 1) := dk_172 (dk_at dksX6_end_1 1 rfl rfl)
abbrev cX6_isIn : ByteArray := prog_19_method_3_code
def yX6_isIn : MethodName := ⟨RX6, "isIn", "(III)Z"⟩
def dkwX6_isIn_0 : List UInt8 := [26, 27, 161, 0, 12, 26, 28, 163, 0, 7, 4, 167, 0, 4, 3, 172]
abbrev dktX6_isIn_0 : List UInt8 := dkwX6_isIn_0 ++ []
theorem dksX6_isIn_0 : cX6_isIn.data.toList.drop 0 = dktX6_isIn_0 := by decide +kernel
theorem dX6_isIn_0 : decode cX6_isIn 0 = .ok (.iload_n 0, 1) := dk_26 (dk_at dksX6_isIn_0 0 rfl rfl)
theorem dX6_isIn_1 : decode cX6_isIn 1 = .ok (.iload_n 1, 1) := dk_27 (dk_at dksX6_isIn_0 1 rfl rfl)
theorem dX6_isIn_2 : decode cX6_isIn 2 = .ok (.if_icmp .lt 12, 3) := dk_161 0 12 (dk_at dksX6_isIn_0 2 rfl rfl)
theorem dX6_isIn_5 : decode cX6_isIn 5 = .ok (.iload_n 0, 1) := dk_26 (dk_at dksX6_isIn_0 5 rfl rfl)
theorem dX6_isIn_6 : decode cX6_isIn 6 = .ok (.iload_n 2, 1) := dk_28 (dk_at dksX6_isIn_0 6 rfl rfl)
theorem dX6_isIn_7 : decode cX6_isIn 7 = .ok (.if_icmp .gt 7, 3) := dk_163 0 7 (dk_at dksX6_isIn_0 7 rfl rfl)
theorem dX6_isIn_10 : decode cX6_isIn 10 = .ok (.iconst 1, 1) := dk_4 (dk_at dksX6_isIn_0 10 rfl rfl)
theorem dX6_isIn_11 : decode cX6_isIn 11 = .ok (.goto 4, 3) := dk_167 0 4 (dk_at dksX6_isIn_0 11 rfl rfl)
theorem dX6_isIn_14 : decode cX6_isIn 14 = .ok (.iconst 0, 1) := dk_3 (dk_at dksX6_isIn_0 14 rfl rfl)
theorem dX6_isIn_15 : decode cX6_isIn 15 = .ok (.ireturn, 1) := dk_172 (dk_at dksX6_isIn_0 15 rfl rfl)
abbrev cX6_ground : ByteArray := prog_19_method_41_code
def yX6_ground : MethodName := ⟨RX6, "ground", "()I"⟩
def dkwX6_ground_3 : List UInt8 := [181, 0, 205, 42, 180, 0, 7, 3, 46, 172]
abbrev dktX6_ground_3 : List UInt8 := dkwX6_ground_3 ++ []
def dkwX6_ground_2 : List UInt8 := [180, 0, 54, 158, 0, 9, 42, 182, 0, 202, 3, 172, 42, 180, 0, 7, 3, 92, 46, 4, 96, 79, 42, 3]
abbrev dktX6_ground_2 : List UInt8 := dkwX6_ground_2 ++ dktX6_ground_3
def dkwX6_ground_1 : List UInt8 := [167, 0, 19, 42, 180, 0, 7, 3, 46, 16, 12, 160, 0, 7, 5, 167, 0, 4, 3, 181, 0, 54, 42]
abbrev dktX6_ground_1 : List UInt8 := dkwX6_ground_1 ++ dktX6_ground_2
def dkwX6_ground_0 : List UInt8 := [42, 182, 0, 192, 42, 182, 0, 195, 42, 3, 182, 0, 198, 60, 42, 42, 180, 0, 25, 2, 159, 0, 7, 4]
abbrev dktX6_ground_0 : List UInt8 := dkwX6_ground_0 ++ dktX6_ground_1
theorem dksX6_ground_0 : cX6_ground.data.toList.drop 0 = dktX6_ground_0 := by decide +kernel
theorem dksX6_ground_1 : cX6_ground.data.toList.drop 24 = dktX6_ground_1 := dk_seg dksX6_ground_0 24 rfl rfl
theorem dksX6_ground_2 : cX6_ground.data.toList.drop 47 = dktX6_ground_2 := dk_seg dksX6_ground_1 23 rfl rfl
theorem dksX6_ground_3 : cX6_ground.data.toList.drop 71 = dktX6_ground_3 := dk_seg dksX6_ground_2 24 rfl rfl
theorem dX6_ground_0 : decode cX6_ground 0 = .ok (.aload_n 0, 1) := dk_42 (dk_at dksX6_ground_0 0 rfl rfl)
theorem dX6_ground_1 : decode cX6_ground 1 = .ok (.invokevirtual 192, 3) := dk_182 0 192 (dk_at dksX6_ground_0 1 rfl rfl)
theorem dX6_ground_4 : decode cX6_ground 4 = .ok (.aload_n 0, 1) := dk_42 (dk_at dksX6_ground_0 4 rfl rfl)
theorem dX6_ground_5 : decode cX6_ground 5 = .ok (.invokevirtual 195, 3) := dk_182 0 195 (dk_at dksX6_ground_0 5 rfl rfl)
theorem dX6_ground_8 : decode cX6_ground 8 = .ok (.aload_n 0, 1) := dk_42 (dk_at dksX6_ground_0 8 rfl rfl)
theorem dX6_ground_9 : decode cX6_ground 9 = .ok (.iconst 0, 1) := dk_3 (dk_at dksX6_ground_0 9 rfl rfl)
theorem dX6_ground_10 : decode cX6_ground 10 = .ok (.invokevirtual 198, 3) := dk_182 0 198 (dk_at dksX6_ground_0 10 rfl rfl)
theorem dX6_ground_13 : decode cX6_ground 13 = .ok (.istore_n 1, 1) := dk_60 (dk_at dksX6_ground_0 13 rfl rfl)
theorem dX6_ground_14 : decode cX6_ground 14 = .ok (.aload_n 0, 1) := dk_42 (dk_at dksX6_ground_0 14 rfl rfl)
theorem dX6_ground_15 : decode cX6_ground 15 = .ok (.aload_n 0, 1) := dk_42 (dk_at dksX6_ground_0 15 rfl rfl)
theorem dX6_ground_16 : decode cX6_ground 16 = .ok (.getfield 25, 3) := dk_180 0 25 (dk_at dksX6_ground_0 16 rfl rfl)
theorem dX6_ground_19 : decode cX6_ground 19 = .ok (.iconst (-1), 1) := dk_2 (dk_at dksX6_ground_0 19 rfl rfl)
theorem dX6_ground_20 : decode cX6_ground 20 = .ok (.if_icmp .eq 7, 3) := dk_159 0 7 (dk_at dksX6_ground_0 20 rfl rfl)
theorem dX6_ground_23 : decode cX6_ground 23 = .ok (.iconst 1, 1) := dk_4 (dk_at dksX6_ground_0 23 rfl rfl)
theorem dX6_ground_24 : decode cX6_ground 24 = .ok (.goto 19, 3) := dk_167 0 19 (dk_at dksX6_ground_1 0 rfl rfl)
theorem dX6_ground_27 : decode cX6_ground 27 = .ok (.aload_n 0, 1) := dk_42 (dk_at dksX6_ground_1 3 rfl rfl)
theorem dX6_ground_28 : decode cX6_ground 28 = .ok (.getfield 7, 3) := dk_180 0 7 (dk_at dksX6_ground_1 4 rfl rfl)
theorem dX6_ground_31 : decode cX6_ground 31 = .ok (.iconst 0, 1) := dk_3 (dk_at dksX6_ground_1 7 rfl rfl)
theorem dX6_ground_32 : decode cX6_ground 32 = .ok (.iaload, 1) := dk_46 (dk_at dksX6_ground_1 8 rfl rfl)
theorem dX6_ground_33 : decode cX6_ground 33 = .ok (.bipush 12, 2) := dk_16 12 (dk_at dksX6_ground_1 9 rfl rfl)
theorem dX6_ground_35 : decode cX6_ground 35 = .ok (.if_icmp .ne 7, 3) := dk_160 0 7 (dk_at dksX6_ground_1 11 rfl rfl)
theorem dX6_ground_38 : decode cX6_ground 38 = .ok (.iconst 2, 1) := dk_5 (dk_at dksX6_ground_1 14 rfl rfl)
theorem dX6_ground_39 : decode cX6_ground 39 = .ok (.goto 4, 3) := dk_167 0 4 (dk_at dksX6_ground_1 15 rfl rfl)
theorem dX6_ground_42 : decode cX6_ground 42 = .ok (.iconst 0, 1) := dk_3 (dk_at dksX6_ground_1 18 rfl rfl)
theorem dX6_ground_43 : decode cX6_ground 43 = .ok (.putfield 54, 3) := dk_181 0 54 (dk_at dksX6_ground_1 19 rfl rfl)
theorem dX6_ground_46 : decode cX6_ground 46 = .ok (.aload_n 0, 1) := dk_42 (dk_at dksX6_ground_1 22 rfl rfl)
theorem dX6_ground_47 : decode cX6_ground 47 = .ok (.getfield 54, 3) := dk_180 0 54 (dk_at dksX6_ground_2 0 rfl rfl)
theorem dX6_ground_50 : decode cX6_ground 50 = .ok (.ifCond .le 9, 3) := dk_158 0 9 (dk_at dksX6_ground_2 3 rfl rfl)
theorem dX6_ground_53 : decode cX6_ground 53 = .ok (.aload_n 0, 1) := dk_42 (dk_at dksX6_ground_2 6 rfl rfl)
theorem dX6_ground_54 : decode cX6_ground 54 = .ok (.invokevirtual 202, 3) := dk_182 0 202 (dk_at dksX6_ground_2 7 rfl rfl)
theorem dX6_ground_57 : decode cX6_ground 57 = .ok (.iconst 0, 1) := dk_3 (dk_at dksX6_ground_2 10 rfl rfl)
theorem dX6_ground_58 : decode cX6_ground 58 = .ok (.ireturn, 1) := dk_172 (dk_at dksX6_ground_2 11 rfl rfl)
theorem dX6_ground_59 : decode cX6_ground 59 = .ok (.aload_n 0, 1) := dk_42 (dk_at dksX6_ground_2 12 rfl rfl)
theorem dX6_ground_60 : decode cX6_ground 60 = .ok (.getfield 7, 3) := dk_180 0 7 (dk_at dksX6_ground_2 13 rfl rfl)
theorem dX6_ground_63 : decode cX6_ground 63 = .ok (.iconst 0, 1) := dk_3 (dk_at dksX6_ground_2 16 rfl rfl)
theorem dX6_ground_64 : decode cX6_ground 64 = .ok (.dup2, 1) := dk_92 (dk_at dksX6_ground_2 17 rfl rfl)
theorem dX6_ground_65 : decode cX6_ground 65 = .ok (.iaload, 1) := dk_46 (dk_at dksX6_ground_2 18 rfl rfl)
theorem dX6_ground_66 : decode cX6_ground 66 = .ok (.iconst 1, 1) := dk_4 (dk_at dksX6_ground_2 19 rfl rfl)
theorem dX6_ground_67 : decode cX6_ground 67 = .ok (.iadd, 1) := dk_96 (dk_at dksX6_ground_2 20 rfl rfl)
theorem dX6_ground_68 : decode cX6_ground 68 = .ok (.iastore, 1) := dk_79 (dk_at dksX6_ground_2 21 rfl rfl)
theorem dX6_ground_69 : decode cX6_ground 69 = .ok (.aload_n 0, 1) := dk_42 (dk_at dksX6_ground_2 22 rfl rfl)
theorem dX6_ground_70 : decode cX6_ground 70 = .ok (.iconst 0, 1) := dk_3 (dk_at dksX6_ground_2 23 rfl rfl)
theorem dX6_ground_71 : decode cX6_ground 71 = .ok (.putfield 205, 3) := dk_181 0 205 (dk_at dksX6_ground_3 0 rfl rfl)
theorem dX6_ground_74 : decode cX6_ground 74 = .ok (.aload_n 0, 1) := dk_42 (dk_at dksX6_ground_3 3 rfl rfl)
theorem dX6_ground_75 : decode cX6_ground 75 = .ok (.getfield 7, 3) := dk_180 0 7 (dk_at dksX6_ground_3 4 rfl rfl)
theorem dX6_ground_78 : decode cX6_ground 78 = .ok (.iconst 0, 1) := dk_3 (dk_at dksX6_ground_3 7 rfl rfl)
theorem dX6_ground_79 : decode cX6_ground 79 = .ok (.iaload, 1) := dk_46 (dk_at dksX6_ground_3 8 rfl rfl)
theorem dX6_ground_80 : decode cX6_ground 80 = .ok (.ireturn, 1) := dk_172 (dk_at dksX6_ground_3 9 rfl rfl)
abbrev cX6_putsAside : ByteArray := prog_19_method_39_code
def yX6_putsAside : MethodName := ⟨RX6, "putsAside", "()V"⟩
def dkwX6_putsAside_1 : List UInt8 := [167, 255, 234, 177]
abbrev dktX6_putsAside_1 : List UInt8 := dkwX6_putsAside_1 ++ []
def dkwX6_putsAside_0 : List UInt8 := [3, 60, 27, 17, 2, 107, 162, 0, 21, 42, 180, 0, 16, 27, 42, 180, 0, 7, 27, 46, 79, 132, 1, 1]
abbrev dktX6_putsAside_0 : List UInt8 := dkwX6_putsAside_0 ++ dktX6_putsAside_1
theorem dksX6_putsAside_0 : cX6_putsAside.data.toList.drop 0 = dktX6_putsAside_0 := by decide +kernel
theorem dksX6_putsAside_1 : cX6_putsAside.data.toList.drop 24 = dktX6_putsAside_1 := dk_seg dksX6_putsAside_0 24 rfl rfl
theorem dX6_putsAside_0 : decode cX6_putsAside 0 = .ok (.iconst 0, 1) := dk_3 (dk_at dksX6_putsAside_0 0 rfl rfl)
theorem dX6_putsAside_1 : decode cX6_putsAside 1 = .ok (.istore_n 1, 1) := dk_60 (dk_at dksX6_putsAside_0 1 rfl rfl)
theorem dX6_putsAside_2 : decode cX6_putsAside 2 = .ok (.iload_n 1, 1) := dk_27 (dk_at dksX6_putsAside_0 2 rfl rfl)
theorem dX6_putsAside_3 : decode cX6_putsAside 3 = .ok (.sipush 619, 3) := dk_17 2 107 (dk_at dksX6_putsAside_0 3 rfl rfl)
theorem dX6_putsAside_6 : decode cX6_putsAside 6 = .ok (.if_icmp .ge 21, 3) := dk_162 0 21 (dk_at dksX6_putsAside_0 6 rfl rfl)
theorem dX6_putsAside_9 : decode cX6_putsAside 9 = .ok (.aload_n 0, 1) := dk_42 (dk_at dksX6_putsAside_0 9 rfl rfl)
theorem dX6_putsAside_10 : decode cX6_putsAside 10 = .ok (.getfield 16, 3) := dk_180 0 16 (dk_at dksX6_putsAside_0 10 rfl rfl)
theorem dX6_putsAside_13 : decode cX6_putsAside 13 = .ok (.iload_n 1, 1) := dk_27 (dk_at dksX6_putsAside_0 13 rfl rfl)
theorem dX6_putsAside_14 : decode cX6_putsAside 14 = .ok (.aload_n 0, 1) := dk_42 (dk_at dksX6_putsAside_0 14 rfl rfl)
theorem dX6_putsAside_15 : decode cX6_putsAside 15 = .ok (.getfield 7, 3) := dk_180 0 7 (dk_at dksX6_putsAside_0 15 rfl rfl)
theorem dX6_putsAside_18 : decode cX6_putsAside 18 = .ok (.iload_n 1, 1) := dk_27 (dk_at dksX6_putsAside_0 18 rfl rfl)
theorem dX6_putsAside_19 : decode cX6_putsAside 19 = .ok (.iaload, 1) := dk_46 (dk_at dksX6_putsAside_0 19 rfl rfl)
theorem dX6_putsAside_20 : decode cX6_putsAside 20 = .ok (.iastore, 1) := dk_79 (dk_at dksX6_putsAside_0 20 rfl rfl)
theorem dX6_putsAside_21 : decode cX6_putsAside 21 = .ok (.iinc 1 1, 3) := dk_132 1 1 (dk_at dksX6_putsAside_0 21 rfl rfl)
theorem dX6_putsAside_24 : decode cX6_putsAside 24 = .ok (.goto (-22), 3) := dk_167 255 234 (dk_at dksX6_putsAside_1 0 rfl rfl)
theorem dX6_putsAside_27 : decode cX6_putsAside 27 = .ok (.return_, 1) := dk_177 (dk_at dksX6_putsAside_1 3 rfl rfl)
abbrev cX6_begins : ByteArray := prog_19_method_37_code
def yX6_begins : MethodName := ⟨RX6, "begins", "()V"⟩
def dkwX6_begins_1 : List UInt8 := [3, 181, 0, 87, 42, 3, 181, 0, 179, 177]
abbrev dktX6_begins_1 : List UInt8 := dkwX6_begins_1 ++ []
def dkwX6_begins_0 : List UInt8 := [42, 2, 181, 0, 25, 42, 2, 181, 0, 84, 42, 42, 180, 0, 81, 181, 0, 90, 42, 3, 181, 0, 81, 42]
abbrev dktX6_begins_0 : List UInt8 := dkwX6_begins_0 ++ dktX6_begins_1
theorem dksX6_begins_0 : cX6_begins.data.toList.drop 0 = dktX6_begins_0 := by decide +kernel
theorem dksX6_begins_1 : cX6_begins.data.toList.drop 24 = dktX6_begins_1 := dk_seg dksX6_begins_0 24 rfl rfl
theorem dX6_begins_0 : decode cX6_begins 0 = .ok (.aload_n 0, 1) := dk_42 (dk_at dksX6_begins_0 0 rfl rfl)
theorem dX6_begins_1 : decode cX6_begins 1 = .ok (.iconst (-1), 1) := dk_2 (dk_at dksX6_begins_0 1 rfl rfl)
theorem dX6_begins_2 : decode cX6_begins 2 = .ok (.putfield 25, 3) := dk_181 0 25 (dk_at dksX6_begins_0 2 rfl rfl)
theorem dX6_begins_5 : decode cX6_begins 5 = .ok (.aload_n 0, 1) := dk_42 (dk_at dksX6_begins_0 5 rfl rfl)
theorem dX6_begins_6 : decode cX6_begins 6 = .ok (.iconst (-1), 1) := dk_2 (dk_at dksX6_begins_0 6 rfl rfl)
theorem dX6_begins_7 : decode cX6_begins 7 = .ok (.putfield 84, 3) := dk_181 0 84 (dk_at dksX6_begins_0 7 rfl rfl)
theorem dX6_begins_10 : decode cX6_begins 10 = .ok (.aload_n 0, 1) := dk_42 (dk_at dksX6_begins_0 10 rfl rfl)
theorem dX6_begins_11 : decode cX6_begins 11 = .ok (.aload_n 0, 1) := dk_42 (dk_at dksX6_begins_0 11 rfl rfl)
theorem dX6_begins_12 : decode cX6_begins 12 = .ok (.getfield 81, 3) := dk_180 0 81 (dk_at dksX6_begins_0 12 rfl rfl)
theorem dX6_begins_15 : decode cX6_begins 15 = .ok (.putfield 90, 3) := dk_181 0 90 (dk_at dksX6_begins_0 15 rfl rfl)
theorem dX6_begins_18 : decode cX6_begins 18 = .ok (.aload_n 0, 1) := dk_42 (dk_at dksX6_begins_0 18 rfl rfl)
theorem dX6_begins_19 : decode cX6_begins 19 = .ok (.iconst 0, 1) := dk_3 (dk_at dksX6_begins_0 19 rfl rfl)
theorem dX6_begins_20 : decode cX6_begins 20 = .ok (.putfield 81, 3) := dk_181 0 81 (dk_at dksX6_begins_0 20 rfl rfl)
theorem dX6_begins_23 : decode cX6_begins 23 = .ok (.aload_n 0, 1) := dk_42 (dk_at dksX6_begins_0 23 rfl rfl)
theorem dX6_begins_24 : decode cX6_begins 24 = .ok (.iconst 0, 1) := dk_3 (dk_at dksX6_begins_1 0 rfl rfl)
theorem dX6_begins_25 : decode cX6_begins 25 = .ok (.putfield 87, 3) := dk_181 0 87 (dk_at dksX6_begins_1 1 rfl rfl)
theorem dX6_begins_28 : decode cX6_begins 28 = .ok (.aload_n 0, 1) := dk_42 (dk_at dksX6_begins_1 4 rfl rfl)
theorem dX6_begins_29 : decode cX6_begins 29 = .ok (.iconst 0, 1) := dk_3 (dk_at dksX6_begins_1 5 rfl rfl)
theorem dX6_begins_30 : decode cX6_begins 30 = .ok (.putfield 179, 3) := dk_181 0 179 (dk_at dksX6_begins_1 6 rfl rfl)
theorem dX6_begins_33 : decode cX6_begins 33 = .ok (.return_, 1) := dk_177 (dk_at dksX6_begins_1 9 rfl rfl)
abbrev cX6_read : ByteArray := prog_19_method_38_code
def yX6_read : MethodName := ⟨RX6, "read", "(Z)I"⟩
def dkwX6_read_6 : List UInt8 := [182, 0, 113, 167, 255, 138, 29, 172]
abbrev dktX6_read_6 : List UInt8 := dkwX6_read_6 ++ []
def dkwX6_read_5 : List UInt8 := [182, 0, 188, 153, 0, 16, 42, 89, 180, 0, 87, 4, 96, 181, 0, 87, 167, 255, 149, 42, 42, 180, 0, 87]
abbrev dktX6_read_5 : List UInt8 := dkwX6_read_5 ++ dktX6_read_6
def dkwX6_read_4 : List UInt8 := [160, 0, 14, 42, 180, 0, 87, 42, 180, 0, 90, 160, 0, 8, 3, 61, 167, 255, 171, 42, 16, 59]
abbrev dktX6_read_4 : List UInt8 := dkwX6_read_4 ++ dktX6_read_5
def dkwX6_read_3 : List UInt8 := [182, 0, 182, 167, 0, 7, 42, 182, 0, 185, 132, 3, 1, 42, 182, 0, 97, 42, 180, 0, 25, 2]
abbrev dktX6_read_3 : List UInt8 := dkwX6_read_3 ++ dktX6_read_4
def dkwX6_read_2 : List UInt8 := [167, 0, 5, 16, 14, 160, 0, 14, 42, 42, 180, 0, 87, 182, 0, 113, 167, 0, 18, 27, 153, 0, 10, 42]
abbrev dktX6_read_2 : List UInt8 := dkwX6_read_2 ++ dktX6_read_3
def dkwX6_read_1 : List UInt8 := [153, 0, 120, 42, 180, 0, 25, 2, 160, 0, 112, 42, 182, 0, 97, 29, 27, 153, 0, 8, 16, 12]
abbrev dktX6_read_1 : List UInt8 := dkwX6_read_1 ++ dktX6_read_2
def dkwX6_read_0 : List UInt8 := [42, 182, 0, 97, 42, 180, 0, 87, 42, 180, 0, 90, 162, 0, 7, 4, 167, 0, 4, 3, 61, 3, 62, 28]
abbrev dktX6_read_0 : List UInt8 := dkwX6_read_0 ++ dktX6_read_1
theorem dksX6_read_0 : cX6_read.data.toList.drop 0 = dktX6_read_0 := by decide +kernel
theorem dksX6_read_1 : cX6_read.data.toList.drop 24 = dktX6_read_1 := dk_seg dksX6_read_0 24 rfl rfl
theorem dksX6_read_2 : cX6_read.data.toList.drop 46 = dktX6_read_2 := dk_seg dksX6_read_1 22 rfl rfl
theorem dksX6_read_3 : cX6_read.data.toList.drop 70 = dktX6_read_3 := dk_seg dksX6_read_2 24 rfl rfl
theorem dksX6_read_4 : cX6_read.data.toList.drop 92 = dktX6_read_4 := dk_seg dksX6_read_3 22 rfl rfl
theorem dksX6_read_5 : cX6_read.data.toList.drop 114 = dktX6_read_5 := dk_seg dksX6_read_4 22 rfl rfl
theorem dksX6_read_6 : cX6_read.data.toList.drop 138 = dktX6_read_6 := dk_seg dksX6_read_5 24 rfl rfl
theorem dX6_read_0 : decode cX6_read 0 = .ok (.aload_n 0, 1) := dk_42 (dk_at dksX6_read_0 0 rfl rfl)
theorem dX6_read_1 : decode cX6_read 1 = .ok (.invokevirtual 97, 3) := dk_182 0 97 (dk_at dksX6_read_0 1 rfl rfl)
theorem dX6_read_4 : decode cX6_read 4 = .ok (.aload_n 0, 1) := dk_42 (dk_at dksX6_read_0 4 rfl rfl)
theorem dX6_read_5 : decode cX6_read 5 = .ok (.getfield 87, 3) := dk_180 0 87 (dk_at dksX6_read_0 5 rfl rfl)
theorem dX6_read_8 : decode cX6_read 8 = .ok (.aload_n 0, 1) := dk_42 (dk_at dksX6_read_0 8 rfl rfl)
theorem dX6_read_9 : decode cX6_read 9 = .ok (.getfield 90, 3) := dk_180 0 90 (dk_at dksX6_read_0 9 rfl rfl)
theorem dX6_read_12 : decode cX6_read 12 = .ok (.if_icmp .ge 7, 3) := dk_162 0 7 (dk_at dksX6_read_0 12 rfl rfl)
theorem dX6_read_15 : decode cX6_read 15 = .ok (.iconst 1, 1) := dk_4 (dk_at dksX6_read_0 15 rfl rfl)
theorem dX6_read_16 : decode cX6_read 16 = .ok (.goto 4, 3) := dk_167 0 4 (dk_at dksX6_read_0 16 rfl rfl)
theorem dX6_read_19 : decode cX6_read 19 = .ok (.iconst 0, 1) := dk_3 (dk_at dksX6_read_0 19 rfl rfl)
theorem dX6_read_20 : decode cX6_read 20 = .ok (.istore_n 2, 1) := dk_61 (dk_at dksX6_read_0 20 rfl rfl)
theorem dX6_read_21 : decode cX6_read 21 = .ok (.iconst 0, 1) := dk_3 (dk_at dksX6_read_0 21 rfl rfl)
theorem dX6_read_22 : decode cX6_read 22 = .ok (.istore_n 3, 1) := dk_62 (dk_at dksX6_read_0 22 rfl rfl)
theorem dX6_read_23 : decode cX6_read 23 = .ok (.iload_n 2, 1) := dk_28 (dk_at dksX6_read_0 23 rfl rfl)
theorem dX6_read_24 : decode cX6_read 24 = .ok (.ifCond .eq 120, 3) := dk_153 0 120 (dk_at dksX6_read_1 0 rfl rfl)
theorem dX6_read_27 : decode cX6_read 27 = .ok (.aload_n 0, 1) := dk_42 (dk_at dksX6_read_1 3 rfl rfl)
theorem dX6_read_28 : decode cX6_read 28 = .ok (.getfield 25, 3) := dk_180 0 25 (dk_at dksX6_read_1 4 rfl rfl)
theorem dX6_read_31 : decode cX6_read 31 = .ok (.iconst (-1), 1) := dk_2 (dk_at dksX6_read_1 7 rfl rfl)
theorem dX6_read_32 : decode cX6_read 32 = .ok (.if_icmp .ne 112, 3) := dk_160 0 112 (dk_at dksX6_read_1 8 rfl rfl)
theorem dX6_read_35 : decode cX6_read 35 = .ok (.aload_n 0, 1) := dk_42 (dk_at dksX6_read_1 11 rfl rfl)
theorem dX6_read_36 : decode cX6_read 36 = .ok (.invokevirtual 97, 3) := dk_182 0 97 (dk_at dksX6_read_1 12 rfl rfl)
theorem dX6_read_39 : decode cX6_read 39 = .ok (.iload_n 3, 1) := dk_29 (dk_at dksX6_read_1 15 rfl rfl)
theorem dX6_read_40 : decode cX6_read 40 = .ok (.iload_n 1, 1) := dk_27 (dk_at dksX6_read_1 16 rfl rfl)
theorem dX6_read_41 : decode cX6_read 41 = .ok (.ifCond .eq 8, 3) := dk_153 0 8 (dk_at dksX6_read_1 17 rfl rfl)
theorem dX6_read_44 : decode cX6_read 44 = .ok (.bipush 12, 2) := dk_16 12 (dk_at dksX6_read_1 20 rfl rfl)
theorem dX6_read_46 : decode cX6_read 46 = .ok (.goto 5, 3) := dk_167 0 5 (dk_at dksX6_read_2 0 rfl rfl)
theorem dX6_read_49 : decode cX6_read 49 = .ok (.bipush 14, 2) := dk_16 14 (dk_at dksX6_read_2 3 rfl rfl)
theorem dX6_read_51 : decode cX6_read 51 = .ok (.if_icmp .ne 14, 3) := dk_160 0 14 (dk_at dksX6_read_2 5 rfl rfl)
theorem dX6_read_54 : decode cX6_read 54 = .ok (.aload_n 0, 1) := dk_42 (dk_at dksX6_read_2 8 rfl rfl)
theorem dX6_read_55 : decode cX6_read 55 = .ok (.aload_n 0, 1) := dk_42 (dk_at dksX6_read_2 9 rfl rfl)
theorem dX6_read_56 : decode cX6_read 56 = .ok (.getfield 87, 3) := dk_180 0 87 (dk_at dksX6_read_2 10 rfl rfl)
theorem dX6_read_59 : decode cX6_read 59 = .ok (.invokevirtual 113, 3) := dk_182 0 113 (dk_at dksX6_read_2 13 rfl rfl)
theorem dX6_read_62 : decode cX6_read 62 = .ok (.goto 18, 3) := dk_167 0 18 (dk_at dksX6_read_2 16 rfl rfl)
theorem dX6_read_65 : decode cX6_read 65 = .ok (.iload_n 1, 1) := dk_27 (dk_at dksX6_read_2 19 rfl rfl)
theorem dX6_read_66 : decode cX6_read 66 = .ok (.ifCond .eq 10, 3) := dk_153 0 10 (dk_at dksX6_read_2 20 rfl rfl)
theorem dX6_read_69 : decode cX6_read 69 = .ok (.aload_n 0, 1) := dk_42 (dk_at dksX6_read_2 23 rfl rfl)
theorem dX6_read_70 : decode cX6_read 70 = .ok (.invokevirtual 182, 3) := dk_182 0 182 (dk_at dksX6_read_3 0 rfl rfl)
theorem dX6_read_73 : decode cX6_read 73 = .ok (.goto 7, 3) := dk_167 0 7 (dk_at dksX6_read_3 3 rfl rfl)
theorem dX6_read_76 : decode cX6_read 76 = .ok (.aload_n 0, 1) := dk_42 (dk_at dksX6_read_3 6 rfl rfl)
theorem dX6_read_77 : decode cX6_read 77 = .ok (.invokevirtual 185, 3) := dk_182 0 185 (dk_at dksX6_read_3 7 rfl rfl)
theorem dX6_read_80 : decode cX6_read 80 = .ok (.iinc 3 1, 3) := dk_132 3 1 (dk_at dksX6_read_3 10 rfl rfl)
theorem dX6_read_83 : decode cX6_read 83 = .ok (.aload_n 0, 1) := dk_42 (dk_at dksX6_read_3 13 rfl rfl)
theorem dX6_read_84 : decode cX6_read 84 = .ok (.invokevirtual 97, 3) := dk_182 0 97 (dk_at dksX6_read_3 14 rfl rfl)
theorem dX6_read_87 : decode cX6_read 87 = .ok (.aload_n 0, 1) := dk_42 (dk_at dksX6_read_3 17 rfl rfl)
theorem dX6_read_88 : decode cX6_read 88 = .ok (.getfield 25, 3) := dk_180 0 25 (dk_at dksX6_read_3 18 rfl rfl)
theorem dX6_read_91 : decode cX6_read 91 = .ok (.iconst (-1), 1) := dk_2 (dk_at dksX6_read_3 21 rfl rfl)
theorem dX6_read_92 : decode cX6_read 92 = .ok (.if_icmp .ne 14, 3) := dk_160 0 14 (dk_at dksX6_read_4 0 rfl rfl)
theorem dX6_read_95 : decode cX6_read 95 = .ok (.aload_n 0, 1) := dk_42 (dk_at dksX6_read_4 3 rfl rfl)
theorem dX6_read_96 : decode cX6_read 96 = .ok (.getfield 87, 3) := dk_180 0 87 (dk_at dksX6_read_4 4 rfl rfl)
theorem dX6_read_99 : decode cX6_read 99 = .ok (.aload_n 0, 1) := dk_42 (dk_at dksX6_read_4 7 rfl rfl)
theorem dX6_read_100 : decode cX6_read 100 = .ok (.getfield 90, 3) := dk_180 0 90 (dk_at dksX6_read_4 8 rfl rfl)
theorem dX6_read_103 : decode cX6_read 103 = .ok (.if_icmp .ne 8, 3) := dk_160 0 8 (dk_at dksX6_read_4 11 rfl rfl)
theorem dX6_read_106 : decode cX6_read 106 = .ok (.iconst 0, 1) := dk_3 (dk_at dksX6_read_4 14 rfl rfl)
theorem dX6_read_107 : decode cX6_read 107 = .ok (.istore_n 2, 1) := dk_61 (dk_at dksX6_read_4 15 rfl rfl)
theorem dX6_read_108 : decode cX6_read 108 = .ok (.goto (-85), 3) := dk_167 255 171 (dk_at dksX6_read_4 16 rfl rfl)
theorem dX6_read_111 : decode cX6_read 111 = .ok (.aload_n 0, 1) := dk_42 (dk_at dksX6_read_4 19 rfl rfl)
theorem dX6_read_112 : decode cX6_read 112 = .ok (.bipush 59, 2) := dk_16 59 (dk_at dksX6_read_4 20 rfl rfl)
theorem dX6_read_114 : decode cX6_read 114 = .ok (.invokevirtual 188, 3) := dk_182 0 188 (dk_at dksX6_read_5 0 rfl rfl)
theorem dX6_read_117 : decode cX6_read 117 = .ok (.ifCond .eq 16, 3) := dk_153 0 16 (dk_at dksX6_read_5 3 rfl rfl)
theorem dX6_read_120 : decode cX6_read 120 = .ok (.aload_n 0, 1) := dk_42 (dk_at dksX6_read_5 6 rfl rfl)
theorem dX6_read_121 : decode cX6_read 121 = .ok (.dup, 1) := dk_89 (dk_at dksX6_read_5 7 rfl rfl)
theorem dX6_read_122 : decode cX6_read 122 = .ok (.getfield 87, 3) := dk_180 0 87 (dk_at dksX6_read_5 8 rfl rfl)
theorem dX6_read_125 : decode cX6_read 125 = .ok (.iconst 1, 1) := dk_4 (dk_at dksX6_read_5 11 rfl rfl)
theorem dX6_read_126 : decode cX6_read 126 = .ok (.iadd, 1) := dk_96 (dk_at dksX6_read_5 12 rfl rfl)
theorem dX6_read_127 : decode cX6_read 127 = .ok (.putfield 87, 3) := dk_181 0 87 (dk_at dksX6_read_5 13 rfl rfl)
theorem dX6_read_130 : decode cX6_read 130 = .ok (.goto (-107), 3) := dk_167 255 149 (dk_at dksX6_read_5 16 rfl rfl)
theorem dX6_read_133 : decode cX6_read 133 = .ok (.aload_n 0, 1) := dk_42 (dk_at dksX6_read_5 19 rfl rfl)
theorem dX6_read_134 : decode cX6_read 134 = .ok (.aload_n 0, 1) := dk_42 (dk_at dksX6_read_5 20 rfl rfl)
theorem dX6_read_135 : decode cX6_read 135 = .ok (.getfield 87, 3) := dk_180 0 87 (dk_at dksX6_read_5 21 rfl rfl)
theorem dX6_read_138 : decode cX6_read 138 = .ok (.invokevirtual 113, 3) := dk_182 0 113 (dk_at dksX6_read_6 0 rfl rfl)
theorem dX6_read_141 : decode cX6_read 141 = .ok (.goto (-118), 3) := dk_167 255 138 (dk_at dksX6_read_6 3 rfl rfl)
theorem dX6_read_144 : decode cX6_read 144 = .ok (.iload_n 3, 1) := dk_29 (dk_at dksX6_read_6 6 rfl rfl)
theorem dX6_read_145 : decode cX6_read 145 = .ok (.ireturn, 1) := dk_172 (dk_at dksX6_read_6 7 rfl rfl)
abbrev cX6_skip : ByteArray := prog_19_method_23_code
def yX6_skip : MethodName := ⟨RX6, "skip", "()V"⟩
def dkwX6_skip_1 : List UInt8 := [42, 89, 180, 0, 87, 4, 96, 181, 0, 87, 167, 255, 222, 177]
abbrev dktX6_skip_1 : List UInt8 := dkwX6_skip_1 ++ []
def dkwX6_skip_0 : List UInt8 := [42, 180, 0, 87, 42, 180, 0, 90, 162, 0, 29, 42, 42, 180, 0, 87, 182, 0, 93, 16, 32, 160, 0, 16]
abbrev dktX6_skip_0 : List UInt8 := dkwX6_skip_0 ++ dktX6_skip_1
theorem dksX6_skip_0 : cX6_skip.data.toList.drop 0 = dktX6_skip_0 := by decide +kernel
theorem dksX6_skip_1 : cX6_skip.data.toList.drop 24 = dktX6_skip_1 := dk_seg dksX6_skip_0 24 rfl rfl
theorem dX6_skip_0 : decode cX6_skip 0 = .ok (.aload_n 0, 1) := dk_42 (dk_at dksX6_skip_0 0 rfl rfl)
theorem dX6_skip_1 : decode cX6_skip 1 = .ok (.getfield 87, 3) := dk_180 0 87 (dk_at dksX6_skip_0 1 rfl rfl)
theorem dX6_skip_4 : decode cX6_skip 4 = .ok (.aload_n 0, 1) := dk_42 (dk_at dksX6_skip_0 4 rfl rfl)
theorem dX6_skip_5 : decode cX6_skip 5 = .ok (.getfield 90, 3) := dk_180 0 90 (dk_at dksX6_skip_0 5 rfl rfl)
theorem dX6_skip_8 : decode cX6_skip 8 = .ok (.if_icmp .ge 29, 3) := dk_162 0 29 (dk_at dksX6_skip_0 8 rfl rfl)
theorem dX6_skip_11 : decode cX6_skip 11 = .ok (.aload_n 0, 1) := dk_42 (dk_at dksX6_skip_0 11 rfl rfl)
theorem dX6_skip_12 : decode cX6_skip 12 = .ok (.aload_n 0, 1) := dk_42 (dk_at dksX6_skip_0 12 rfl rfl)
theorem dX6_skip_13 : decode cX6_skip 13 = .ok (.getfield 87, 3) := dk_180 0 87 (dk_at dksX6_skip_0 13 rfl rfl)
theorem dX6_skip_16 : decode cX6_skip 16 = .ok (.invokevirtual 93, 3) := dk_182 0 93 (dk_at dksX6_skip_0 16 rfl rfl)
theorem dX6_skip_19 : decode cX6_skip 19 = .ok (.bipush 32, 2) := dk_16 32 (dk_at dksX6_skip_0 19 rfl rfl)
theorem dX6_skip_21 : decode cX6_skip 21 = .ok (.if_icmp .ne 16, 3) := dk_160 0 16 (dk_at dksX6_skip_0 21 rfl rfl)
theorem dX6_skip_24 : decode cX6_skip 24 = .ok (.aload_n 0, 1) := dk_42 (dk_at dksX6_skip_1 0 rfl rfl)
theorem dX6_skip_25 : decode cX6_skip 25 = .ok (.dup, 1) := dk_89 (dk_at dksX6_skip_1 1 rfl rfl)
theorem dX6_skip_26 : decode cX6_skip 26 = .ok (.getfield 87, 3) := dk_180 0 87 (dk_at dksX6_skip_1 2 rfl rfl)
theorem dX6_skip_29 : decode cX6_skip 29 = .ok (.iconst 1, 1) := dk_4 (dk_at dksX6_skip_1 5 rfl rfl)
theorem dX6_skip_30 : decode cX6_skip 30 = .ok (.iadd, 1) := dk_96 (dk_at dksX6_skip_1 6 rfl rfl)
theorem dX6_skip_31 : decode cX6_skip 31 = .ok (.putfield 87, 3) := dk_181 0 87 (dk_at dksX6_skip_1 7 rfl rfl)
theorem dX6_skip_34 : decode cX6_skip 34 = .ok (.goto (-34), 3) := dk_167 255 222 (dk_at dksX6_skip_1 10 rfl rfl)
theorem dX6_skip_37 : decode cX6_skip 37 = .ok (.return_, 1) := dk_177 (dk_at dksX6_skip_1 13 rfl rfl)
abbrev cX6_letter : ByteArray := prog_19_method_22_code
def yX6_letter : MethodName := ⟨RX6, "letter", "(I)I"⟩
def dkwX6_letter_1 : List UInt8 := [180, 0, 84, 27, 96, 46, 172]
abbrev dktX6_letter_1 : List UInt8 := dkwX6_letter_1 ++ []
def dkwX6_letter_0 : List UInt8 := [42, 180, 0, 84, 2, 160, 0, 12, 42, 180, 0, 22, 27, 46, 167, 0, 14, 42, 180, 0, 7, 42]
abbrev dktX6_letter_0 : List UInt8 := dkwX6_letter_0 ++ dktX6_letter_1
theorem dksX6_letter_0 : cX6_letter.data.toList.drop 0 = dktX6_letter_0 := by decide +kernel
theorem dksX6_letter_1 : cX6_letter.data.toList.drop 22 = dktX6_letter_1 := dk_seg dksX6_letter_0 22 rfl rfl
theorem dX6_letter_0 : decode cX6_letter 0 = .ok (.aload_n 0, 1) := dk_42 (dk_at dksX6_letter_0 0 rfl rfl)
theorem dX6_letter_1 : decode cX6_letter 1 = .ok (.getfield 84, 3) := dk_180 0 84 (dk_at dksX6_letter_0 1 rfl rfl)
theorem dX6_letter_4 : decode cX6_letter 4 = .ok (.iconst (-1), 1) := dk_2 (dk_at dksX6_letter_0 4 rfl rfl)
theorem dX6_letter_5 : decode cX6_letter 5 = .ok (.if_icmp .ne 12, 3) := dk_160 0 12 (dk_at dksX6_letter_0 5 rfl rfl)
theorem dX6_letter_8 : decode cX6_letter 8 = .ok (.aload_n 0, 1) := dk_42 (dk_at dksX6_letter_0 8 rfl rfl)
theorem dX6_letter_9 : decode cX6_letter 9 = .ok (.getfield 22, 3) := dk_180 0 22 (dk_at dksX6_letter_0 9 rfl rfl)
theorem dX6_letter_12 : decode cX6_letter 12 = .ok (.iload_n 1, 1) := dk_27 (dk_at dksX6_letter_0 12 rfl rfl)
theorem dX6_letter_13 : decode cX6_letter 13 = .ok (.iaload, 1) := dk_46 (dk_at dksX6_letter_0 13 rfl rfl)
theorem dX6_letter_14 : decode cX6_letter 14 = .ok (.goto 14, 3) := dk_167 0 14 (dk_at dksX6_letter_0 14 rfl rfl)
theorem dX6_letter_17 : decode cX6_letter 17 = .ok (.aload_n 0, 1) := dk_42 (dk_at dksX6_letter_0 17 rfl rfl)
theorem dX6_letter_18 : decode cX6_letter 18 = .ok (.getfield 7, 3) := dk_180 0 7 (dk_at dksX6_letter_0 18 rfl rfl)
theorem dX6_letter_21 : decode cX6_letter 21 = .ok (.aload_n 0, 1) := dk_42 (dk_at dksX6_letter_0 21 rfl rfl)
theorem dX6_letter_22 : decode cX6_letter 22 = .ok (.getfield 84, 3) := dk_180 0 84 (dk_at dksX6_letter_1 0 rfl rfl)
theorem dX6_letter_25 : decode cX6_letter 25 = .ok (.iload_n 1, 1) := dk_27 (dk_at dksX6_letter_1 3 rfl rfl)
theorem dX6_letter_26 : decode cX6_letter 26 = .ok (.iadd, 1) := dk_96 (dk_at dksX6_letter_1 4 rfl rfl)
theorem dX6_letter_27 : decode cX6_letter 27 = .ok (.iaload, 1) := dk_46 (dk_at dksX6_letter_1 5 rfl rfl)
theorem dX6_letter_28 : decode cX6_letter 28 = .ok (.ireturn, 1) := dk_172 (dk_at dksX6_letter_1 6 rfl rfl)
abbrev cX6_wrong : ByteArray := prog_19_method_26_code
def yX6_wrong : MethodName := ⟨RX6, "wrong", "(I)V"⟩
def dkwX6_wrong_0 : List UInt8 := [42, 180, 0, 25, 2, 160, 0, 8, 42, 27, 181, 0, 25, 177]
abbrev dktX6_wrong_0 : List UInt8 := dkwX6_wrong_0 ++ []
theorem dksX6_wrong_0 : cX6_wrong.data.toList.drop 0 = dktX6_wrong_0 := by decide +kernel
theorem dX6_wrong_0 : decode cX6_wrong 0 = .ok (.aload_n 0, 1) := dk_42 (dk_at dksX6_wrong_0 0 rfl rfl)
theorem dX6_wrong_1 : decode cX6_wrong 1 = .ok (.getfield 25, 3) := dk_180 0 25 (dk_at dksX6_wrong_0 1 rfl rfl)
theorem dX6_wrong_4 : decode cX6_wrong 4 = .ok (.iconst (-1), 1) := dk_2 (dk_at dksX6_wrong_0 4 rfl rfl)
theorem dX6_wrong_5 : decode cX6_wrong 5 = .ok (.if_icmp .ne 8, 3) := dk_160 0 8 (dk_at dksX6_wrong_0 5 rfl rfl)
theorem dX6_wrong_8 : decode cX6_wrong 8 = .ok (.aload_n 0, 1) := dk_42 (dk_at dksX6_wrong_0 8 rfl rfl)
theorem dX6_wrong_9 : decode cX6_wrong 9 = .ok (.iload_n 1, 1) := dk_27 (dk_at dksX6_wrong_0 9 rfl rfl)
theorem dX6_wrong_10 : decode cX6_wrong 10 = .ok (.putfield 25, 3) := dk_181 0 25 (dk_at dksX6_wrong_0 10 rfl rfl)
theorem dX6_wrong_13 : decode cX6_wrong 13 = .ok (.return_, 1) := dk_177 (dk_at dksX6_wrong_0 13 rfl rfl)
abbrev cX6_lawLine : ByteArray := prog_19_method_48_code
def yX6_lawLine : MethodName := ⟨RX6, "lawLine", "()V"⟩
def dkwX6_lawLine_8 : List UInt8 := [181, 1, 10, 177]
abbrev dktX6_lawLine_8 : List UInt8 := dkwX6_lawLine_8 ++ []
def dkwX6_lawLine_7 : List UInt8 := [180, 1, 10, 27, 154, 0, 7, 28, 167, 0, 14, 27, 4, 160, 0, 8, 28, 116, 167, 0, 4, 3, 96]
abbrev dktX6_lawLine_7 : List UInt8 := dkwX6_lawLine_7 ++ dktX6_lawLine_8
def dkwX6_lawLine_6 : List UInt8 := [42, 42, 180, 1, 7, 154, 0, 8, 27, 5, 160, 0, 7, 4, 167, 0, 4, 3, 181, 1, 7, 42, 89]
abbrev dktX6_lawLine_6 : List UInt8 := dkwX6_lawLine_6 ++ dktX6_lawLine_7
def dkwX6_lawLine_5 : List UInt8 := [180, 1, 4, 154, 0, 8, 27, 5, 160, 0, 7, 4, 167, 0, 4, 3, 181, 1, 4, 29, 154, 0, 4, 177]
abbrev dktX6_lawLine_5 : List UInt8 := dkwX6_lawLine_5 ++ dktX6_lawLine_6
def dkwX6_lawLine_4 : List UInt8 := [182, 0, 242, 153, 0, 7, 4, 167, 0, 4, 3, 62, 42, 180, 0, 25, 2, 159, 0, 4, 177, 42, 42]
abbrev dktX6_lawLine_4 : List UInt8 := dkwX6_lawLine_4 ++ dktX6_lawLine_5
def dkwX6_lawLine_3 : List UInt8 := [182, 0, 121, 61, 42, 180, 0, 25, 2, 159, 0, 4, 177, 42, 19, 1, 2, 182, 0, 117, 153, 0, 10, 42]
abbrev dktX6_lawLine_3 : List UInt8 := dkwX6_lawLine_3 ++ dktX6_lawLine_4
def dkwX6_lawLine_2 : List UInt8 := [42, 42, 180, 0, 87, 182, 0, 113, 177, 27, 5, 160, 0, 7, 3, 167, 0, 10, 42, 3, 16, 99]
abbrev dktX6_lawLine_2 : List UInt8 := dkwX6_lawLine_2 ++ dktX6_lawLine_3
def dkwX6_lawLine_1 : List UInt8 := [167, 0, 18, 42, 19, 1, 0, 182, 0, 117, 153, 0, 7, 5, 167, 0, 4, 2, 60, 27, 2, 160, 0, 12]
abbrev dktX6_lawLine_1 : List UInt8 := dkwX6_lawLine_1 ++ dktX6_lawLine_2
def dkwX6_lawLine_0 : List UInt8 := [42, 18, 252, 182, 0, 117, 153, 0, 7, 3, 167, 0, 31, 42, 18, 254, 182, 0, 117, 153, 0, 7, 4]
abbrev dktX6_lawLine_0 : List UInt8 := dkwX6_lawLine_0 ++ dktX6_lawLine_1
theorem dksX6_lawLine_0 : cX6_lawLine.data.toList.drop 0 = dktX6_lawLine_0 := by decide +kernel
theorem dksX6_lawLine_1 : cX6_lawLine.data.toList.drop 23 = dktX6_lawLine_1 := dk_seg dksX6_lawLine_0 23 rfl rfl
theorem dksX6_lawLine_2 : cX6_lawLine.data.toList.drop 47 = dktX6_lawLine_2 := dk_seg dksX6_lawLine_1 24 rfl rfl
theorem dksX6_lawLine_3 : cX6_lawLine.data.toList.drop 69 = dktX6_lawLine_3 := dk_seg dksX6_lawLine_2 22 rfl rfl
theorem dksX6_lawLine_4 : cX6_lawLine.data.toList.drop 93 = dktX6_lawLine_4 := dk_seg dksX6_lawLine_3 24 rfl rfl
theorem dksX6_lawLine_5 : cX6_lawLine.data.toList.drop 116 = dktX6_lawLine_5 := dk_seg dksX6_lawLine_4 23 rfl rfl
theorem dksX6_lawLine_6 : cX6_lawLine.data.toList.drop 140 = dktX6_lawLine_6 := dk_seg dksX6_lawLine_5 24 rfl rfl
theorem dksX6_lawLine_7 : cX6_lawLine.data.toList.drop 163 = dktX6_lawLine_7 := dk_seg dksX6_lawLine_6 23 rfl rfl
theorem dksX6_lawLine_8 : cX6_lawLine.data.toList.drop 186 = dktX6_lawLine_8 := dk_seg dksX6_lawLine_7 23 rfl rfl
theorem dX6_lawLine_0 : decode cX6_lawLine 0 = .ok (.aload_n 0, 1) := dk_42 (dk_at dksX6_lawLine_0 0 rfl rfl)
theorem dX6_lawLine_1 : decode cX6_lawLine 1 = .ok (.ldc 252, 2) := dk_18 252 (dk_at dksX6_lawLine_0 1 rfl rfl)
theorem dX6_lawLine_3 : decode cX6_lawLine 3 = .ok (.invokevirtual 117, 3) := dk_182 0 117 (dk_at dksX6_lawLine_0 3 rfl rfl)
theorem dX6_lawLine_6 : decode cX6_lawLine 6 = .ok (.ifCond .eq 7, 3) := dk_153 0 7 (dk_at dksX6_lawLine_0 6 rfl rfl)
theorem dX6_lawLine_9 : decode cX6_lawLine 9 = .ok (.iconst 0, 1) := dk_3 (dk_at dksX6_lawLine_0 9 rfl rfl)
theorem dX6_lawLine_10 : decode cX6_lawLine 10 = .ok (.goto 31, 3) := dk_167 0 31 (dk_at dksX6_lawLine_0 10 rfl rfl)
theorem dX6_lawLine_13 : decode cX6_lawLine 13 = .ok (.aload_n 0, 1) := dk_42 (dk_at dksX6_lawLine_0 13 rfl rfl)
theorem dX6_lawLine_14 : decode cX6_lawLine 14 = .ok (.ldc 254, 2) := dk_18 254 (dk_at dksX6_lawLine_0 14 rfl rfl)
theorem dX6_lawLine_16 : decode cX6_lawLine 16 = .ok (.invokevirtual 117, 3) := dk_182 0 117 (dk_at dksX6_lawLine_0 16 rfl rfl)
theorem dX6_lawLine_19 : decode cX6_lawLine 19 = .ok (.ifCond .eq 7, 3) := dk_153 0 7 (dk_at dksX6_lawLine_0 19 rfl rfl)
theorem dX6_lawLine_22 : decode cX6_lawLine 22 = .ok (.iconst 1, 1) := dk_4 (dk_at dksX6_lawLine_0 22 rfl rfl)
theorem dX6_lawLine_23 : decode cX6_lawLine 23 = .ok (.goto 18, 3) := dk_167 0 18 (dk_at dksX6_lawLine_1 0 rfl rfl)
theorem dX6_lawLine_26 : decode cX6_lawLine 26 = .ok (.aload_n 0, 1) := dk_42 (dk_at dksX6_lawLine_1 3 rfl rfl)
theorem dX6_lawLine_27 : decode cX6_lawLine 27 = .ok (.ldc_w 256, 3) := dk_19 1 0 (dk_at dksX6_lawLine_1 4 rfl rfl)
theorem dX6_lawLine_30 : decode cX6_lawLine 30 = .ok (.invokevirtual 117, 3) := dk_182 0 117 (dk_at dksX6_lawLine_1 7 rfl rfl)
theorem dX6_lawLine_33 : decode cX6_lawLine 33 = .ok (.ifCond .eq 7, 3) := dk_153 0 7 (dk_at dksX6_lawLine_1 10 rfl rfl)
theorem dX6_lawLine_36 : decode cX6_lawLine 36 = .ok (.iconst 2, 1) := dk_5 (dk_at dksX6_lawLine_1 13 rfl rfl)
theorem dX6_lawLine_37 : decode cX6_lawLine 37 = .ok (.goto 4, 3) := dk_167 0 4 (dk_at dksX6_lawLine_1 14 rfl rfl)
theorem dX6_lawLine_40 : decode cX6_lawLine 40 = .ok (.iconst (-1), 1) := dk_2 (dk_at dksX6_lawLine_1 17 rfl rfl)
theorem dX6_lawLine_41 : decode cX6_lawLine 41 = .ok (.istore_n 1, 1) := dk_60 (dk_at dksX6_lawLine_1 18 rfl rfl)
theorem dX6_lawLine_42 : decode cX6_lawLine 42 = .ok (.iload_n 1, 1) := dk_27 (dk_at dksX6_lawLine_1 19 rfl rfl)
theorem dX6_lawLine_43 : decode cX6_lawLine 43 = .ok (.iconst (-1), 1) := dk_2 (dk_at dksX6_lawLine_1 20 rfl rfl)
theorem dX6_lawLine_44 : decode cX6_lawLine 44 = .ok (.if_icmp .ne 12, 3) := dk_160 0 12 (dk_at dksX6_lawLine_1 21 rfl rfl)
theorem dX6_lawLine_47 : decode cX6_lawLine 47 = .ok (.aload_n 0, 1) := dk_42 (dk_at dksX6_lawLine_2 0 rfl rfl)
theorem dX6_lawLine_48 : decode cX6_lawLine 48 = .ok (.aload_n 0, 1) := dk_42 (dk_at dksX6_lawLine_2 1 rfl rfl)
theorem dX6_lawLine_49 : decode cX6_lawLine 49 = .ok (.getfield 87, 3) := dk_180 0 87 (dk_at dksX6_lawLine_2 2 rfl rfl)
theorem dX6_lawLine_52 : decode cX6_lawLine 52 = .ok (.invokevirtual 113, 3) := dk_182 0 113 (dk_at dksX6_lawLine_2 5 rfl rfl)
theorem dX6_lawLine_55 : decode cX6_lawLine 55 = .ok (.return_, 1) := dk_177 (dk_at dksX6_lawLine_2 8 rfl rfl)
theorem dX6_lawLine_56 : decode cX6_lawLine 56 = .ok (.iload_n 1, 1) := dk_27 (dk_at dksX6_lawLine_2 9 rfl rfl)
theorem dX6_lawLine_57 : decode cX6_lawLine 57 = .ok (.iconst 2, 1) := dk_5 (dk_at dksX6_lawLine_2 10 rfl rfl)
theorem dX6_lawLine_58 : decode cX6_lawLine 58 = .ok (.if_icmp .ne 7, 3) := dk_160 0 7 (dk_at dksX6_lawLine_2 11 rfl rfl)
theorem dX6_lawLine_61 : decode cX6_lawLine 61 = .ok (.iconst 0, 1) := dk_3 (dk_at dksX6_lawLine_2 14 rfl rfl)
theorem dX6_lawLine_62 : decode cX6_lawLine 62 = .ok (.goto 10, 3) := dk_167 0 10 (dk_at dksX6_lawLine_2 15 rfl rfl)
theorem dX6_lawLine_65 : decode cX6_lawLine 65 = .ok (.aload_n 0, 1) := dk_42 (dk_at dksX6_lawLine_2 18 rfl rfl)
theorem dX6_lawLine_66 : decode cX6_lawLine 66 = .ok (.iconst 0, 1) := dk_3 (dk_at dksX6_lawLine_2 19 rfl rfl)
theorem dX6_lawLine_67 : decode cX6_lawLine 67 = .ok (.bipush 99, 2) := dk_16 99 (dk_at dksX6_lawLine_2 20 rfl rfl)
theorem dX6_lawLine_69 : decode cX6_lawLine 69 = .ok (.invokevirtual 121, 3) := dk_182 0 121 (dk_at dksX6_lawLine_3 0 rfl rfl)
theorem dX6_lawLine_72 : decode cX6_lawLine 72 = .ok (.istore_n 2, 1) := dk_61 (dk_at dksX6_lawLine_3 3 rfl rfl)
theorem dX6_lawLine_73 : decode cX6_lawLine 73 = .ok (.aload_n 0, 1) := dk_42 (dk_at dksX6_lawLine_3 4 rfl rfl)
theorem dX6_lawLine_74 : decode cX6_lawLine 74 = .ok (.getfield 25, 3) := dk_180 0 25 (dk_at dksX6_lawLine_3 5 rfl rfl)
theorem dX6_lawLine_77 : decode cX6_lawLine 77 = .ok (.iconst (-1), 1) := dk_2 (dk_at dksX6_lawLine_3 8 rfl rfl)
theorem dX6_lawLine_78 : decode cX6_lawLine 78 = .ok (.if_icmp .eq 4, 3) := dk_159 0 4 (dk_at dksX6_lawLine_3 9 rfl rfl)
theorem dX6_lawLine_81 : decode cX6_lawLine 81 = .ok (.return_, 1) := dk_177 (dk_at dksX6_lawLine_3 12 rfl rfl)
theorem dX6_lawLine_82 : decode cX6_lawLine 82 = .ok (.aload_n 0, 1) := dk_42 (dk_at dksX6_lawLine_3 13 rfl rfl)
theorem dX6_lawLine_83 : decode cX6_lawLine 83 = .ok (.ldc_w 258, 3) := dk_19 1 2 (dk_at dksX6_lawLine_3 14 rfl rfl)
theorem dX6_lawLine_86 : decode cX6_lawLine 86 = .ok (.invokevirtual 117, 3) := dk_182 0 117 (dk_at dksX6_lawLine_3 17 rfl rfl)
theorem dX6_lawLine_89 : decode cX6_lawLine 89 = .ok (.ifCond .eq 10, 3) := dk_153 0 10 (dk_at dksX6_lawLine_3 20 rfl rfl)
theorem dX6_lawLine_92 : decode cX6_lawLine 92 = .ok (.aload_n 0, 1) := dk_42 (dk_at dksX6_lawLine_3 23 rfl rfl)
theorem dX6_lawLine_93 : decode cX6_lawLine 93 = .ok (.invokevirtual 242, 3) := dk_182 0 242 (dk_at dksX6_lawLine_4 0 rfl rfl)
theorem dX6_lawLine_96 : decode cX6_lawLine 96 = .ok (.ifCond .eq 7, 3) := dk_153 0 7 (dk_at dksX6_lawLine_4 3 rfl rfl)
theorem dX6_lawLine_99 : decode cX6_lawLine 99 = .ok (.iconst 1, 1) := dk_4 (dk_at dksX6_lawLine_4 6 rfl rfl)
theorem dX6_lawLine_100 : decode cX6_lawLine 100 = .ok (.goto 4, 3) := dk_167 0 4 (dk_at dksX6_lawLine_4 7 rfl rfl)
theorem dX6_lawLine_103 : decode cX6_lawLine 103 = .ok (.iconst 0, 1) := dk_3 (dk_at dksX6_lawLine_4 10 rfl rfl)
theorem dX6_lawLine_104 : decode cX6_lawLine 104 = .ok (.istore_n 3, 1) := dk_62 (dk_at dksX6_lawLine_4 11 rfl rfl)
theorem dX6_lawLine_105 : decode cX6_lawLine 105 = .ok (.aload_n 0, 1) := dk_42 (dk_at dksX6_lawLine_4 12 rfl rfl)
theorem dX6_lawLine_106 : decode cX6_lawLine 106 = .ok (.getfield 25, 3) := dk_180 0 25 (dk_at dksX6_lawLine_4 13 rfl rfl)
theorem dX6_lawLine_109 : decode cX6_lawLine 109 = .ok (.iconst (-1), 1) := dk_2 (dk_at dksX6_lawLine_4 16 rfl rfl)
theorem dX6_lawLine_110 : decode cX6_lawLine 110 = .ok (.if_icmp .eq 4, 3) := dk_159 0 4 (dk_at dksX6_lawLine_4 17 rfl rfl)
theorem dX6_lawLine_113 : decode cX6_lawLine 113 = .ok (.return_, 1) := dk_177 (dk_at dksX6_lawLine_4 20 rfl rfl)
theorem dX6_lawLine_114 : decode cX6_lawLine 114 = .ok (.aload_n 0, 1) := dk_42 (dk_at dksX6_lawLine_4 21 rfl rfl)
theorem dX6_lawLine_115 : decode cX6_lawLine 115 = .ok (.aload_n 0, 1) := dk_42 (dk_at dksX6_lawLine_4 22 rfl rfl)
theorem dX6_lawLine_116 : decode cX6_lawLine 116 = .ok (.getfield 260, 3) := dk_180 1 4 (dk_at dksX6_lawLine_5 0 rfl rfl)
theorem dX6_lawLine_119 : decode cX6_lawLine 119 = .ok (.ifCond .ne 8, 3) := dk_154 0 8 (dk_at dksX6_lawLine_5 3 rfl rfl)
theorem dX6_lawLine_122 : decode cX6_lawLine 122 = .ok (.iload_n 1, 1) := dk_27 (dk_at dksX6_lawLine_5 6 rfl rfl)
theorem dX6_lawLine_123 : decode cX6_lawLine 123 = .ok (.iconst 2, 1) := dk_5 (dk_at dksX6_lawLine_5 7 rfl rfl)
theorem dX6_lawLine_124 : decode cX6_lawLine 124 = .ok (.if_icmp .ne 7, 3) := dk_160 0 7 (dk_at dksX6_lawLine_5 8 rfl rfl)
theorem dX6_lawLine_127 : decode cX6_lawLine 127 = .ok (.iconst 1, 1) := dk_4 (dk_at dksX6_lawLine_5 11 rfl rfl)
theorem dX6_lawLine_128 : decode cX6_lawLine 128 = .ok (.goto 4, 3) := dk_167 0 4 (dk_at dksX6_lawLine_5 12 rfl rfl)
theorem dX6_lawLine_131 : decode cX6_lawLine 131 = .ok (.iconst 0, 1) := dk_3 (dk_at dksX6_lawLine_5 15 rfl rfl)
theorem dX6_lawLine_132 : decode cX6_lawLine 132 = .ok (.putfield 260, 3) := dk_181 1 4 (dk_at dksX6_lawLine_5 16 rfl rfl)
theorem dX6_lawLine_135 : decode cX6_lawLine 135 = .ok (.iload_n 3, 1) := dk_29 (dk_at dksX6_lawLine_5 19 rfl rfl)
theorem dX6_lawLine_136 : decode cX6_lawLine 136 = .ok (.ifCond .ne 4, 3) := dk_154 0 4 (dk_at dksX6_lawLine_5 20 rfl rfl)
theorem dX6_lawLine_139 : decode cX6_lawLine 139 = .ok (.return_, 1) := dk_177 (dk_at dksX6_lawLine_5 23 rfl rfl)
theorem dX6_lawLine_140 : decode cX6_lawLine 140 = .ok (.aload_n 0, 1) := dk_42 (dk_at dksX6_lawLine_6 0 rfl rfl)
theorem dX6_lawLine_141 : decode cX6_lawLine 141 = .ok (.aload_n 0, 1) := dk_42 (dk_at dksX6_lawLine_6 1 rfl rfl)
theorem dX6_lawLine_142 : decode cX6_lawLine 142 = .ok (.getfield 263, 3) := dk_180 1 7 (dk_at dksX6_lawLine_6 2 rfl rfl)
theorem dX6_lawLine_145 : decode cX6_lawLine 145 = .ok (.ifCond .ne 8, 3) := dk_154 0 8 (dk_at dksX6_lawLine_6 5 rfl rfl)
theorem dX6_lawLine_148 : decode cX6_lawLine 148 = .ok (.iload_n 1, 1) := dk_27 (dk_at dksX6_lawLine_6 8 rfl rfl)
theorem dX6_lawLine_149 : decode cX6_lawLine 149 = .ok (.iconst 2, 1) := dk_5 (dk_at dksX6_lawLine_6 9 rfl rfl)
theorem dX6_lawLine_150 : decode cX6_lawLine 150 = .ok (.if_icmp .ne 7, 3) := dk_160 0 7 (dk_at dksX6_lawLine_6 10 rfl rfl)
theorem dX6_lawLine_153 : decode cX6_lawLine 153 = .ok (.iconst 1, 1) := dk_4 (dk_at dksX6_lawLine_6 13 rfl rfl)
theorem dX6_lawLine_154 : decode cX6_lawLine 154 = .ok (.goto 4, 3) := dk_167 0 4 (dk_at dksX6_lawLine_6 14 rfl rfl)
theorem dX6_lawLine_157 : decode cX6_lawLine 157 = .ok (.iconst 0, 1) := dk_3 (dk_at dksX6_lawLine_6 17 rfl rfl)
theorem dX6_lawLine_158 : decode cX6_lawLine 158 = .ok (.putfield 263, 3) := dk_181 1 7 (dk_at dksX6_lawLine_6 18 rfl rfl)
theorem dX6_lawLine_161 : decode cX6_lawLine 161 = .ok (.aload_n 0, 1) := dk_42 (dk_at dksX6_lawLine_6 21 rfl rfl)
theorem dX6_lawLine_162 : decode cX6_lawLine 162 = .ok (.dup, 1) := dk_89 (dk_at dksX6_lawLine_6 22 rfl rfl)
theorem dX6_lawLine_163 : decode cX6_lawLine 163 = .ok (.getfield 266, 3) := dk_180 1 10 (dk_at dksX6_lawLine_7 0 rfl rfl)
theorem dX6_lawLine_166 : decode cX6_lawLine 166 = .ok (.iload_n 1, 1) := dk_27 (dk_at dksX6_lawLine_7 3 rfl rfl)
theorem dX6_lawLine_167 : decode cX6_lawLine 167 = .ok (.ifCond .ne 7, 3) := dk_154 0 7 (dk_at dksX6_lawLine_7 4 rfl rfl)
theorem dX6_lawLine_170 : decode cX6_lawLine 170 = .ok (.iload_n 2, 1) := dk_28 (dk_at dksX6_lawLine_7 7 rfl rfl)
theorem dX6_lawLine_171 : decode cX6_lawLine 171 = .ok (.goto 14, 3) := dk_167 0 14 (dk_at dksX6_lawLine_7 8 rfl rfl)
theorem dX6_lawLine_174 : decode cX6_lawLine 174 = .ok (.iload_n 1, 1) := dk_27 (dk_at dksX6_lawLine_7 11 rfl rfl)
theorem dX6_lawLine_175 : decode cX6_lawLine 175 = .ok (.iconst 1, 1) := dk_4 (dk_at dksX6_lawLine_7 12 rfl rfl)
theorem dX6_lawLine_176 : decode cX6_lawLine 176 = .ok (.if_icmp .ne 8, 3) := dk_160 0 8 (dk_at dksX6_lawLine_7 13 rfl rfl)
theorem dX6_lawLine_179 : decode cX6_lawLine 179 = .ok (.iload_n 2, 1) := dk_28 (dk_at dksX6_lawLine_7 16 rfl rfl)
theorem dX6_lawLine_180 : decode cX6_lawLine 180 = .ok (.ineg, 1) := dk_116 (dk_at dksX6_lawLine_7 17 rfl rfl)
theorem dX6_lawLine_181 : decode cX6_lawLine 181 = .ok (.goto 4, 3) := dk_167 0 4 (dk_at dksX6_lawLine_7 18 rfl rfl)
theorem dX6_lawLine_184 : decode cX6_lawLine 184 = .ok (.iconst 0, 1) := dk_3 (dk_at dksX6_lawLine_7 21 rfl rfl)
theorem dX6_lawLine_185 : decode cX6_lawLine 185 = .ok (.iadd, 1) := dk_96 (dk_at dksX6_lawLine_7 22 rfl rfl)
theorem dX6_lawLine_186 : decode cX6_lawLine 186 = .ok (.putfield 266, 3) := dk_181 1 10 (dk_at dksX6_lawLine_8 0 rfl rfl)
theorem dX6_lawLine_189 : decode cX6_lawLine 189 = .ok (.return_, 1) := dk_177 (dk_at dksX6_lawLine_8 3 rfl rfl)
abbrev cX6_has : ByteArray := prog_19_method_25_code
def yX6_has : MethodName := ⟨RX6, "has", "(Ljava/lang/String;)Z"⟩
def dkwX6_has_5 : List UInt8 := [42, 28, 181, 0, 87, 4, 172]
abbrev dktX6_has_5 : List UInt8 := dkwX6_has_5 ++ []
def dkwX6_has_4 : List UInt8 := [180, 0, 87, 29, 96, 182, 0, 93, 43, 29, 182, 0, 100, 159, 0, 5, 3, 172, 132, 3, 1, 167, 255, 225]
abbrev dktX6_has_4 : List UInt8 := dkwX6_has_4 ++ dktX6_has_5
def dkwX6_has_3 : List UInt8 := [100, 43, 182, 0, 106, 159, 0, 5, 3, 172, 3, 62, 29, 43, 182, 0, 106, 162, 0, 29, 42, 42]
abbrev dktX6_has_3 : List UInt8 := dkwX6_has_3 ++ dktX6_has_4
def dkwX6_has_2 : List UInt8 := [182, 0, 93, 16, 97, 16, 122, 184, 0, 57, 153, 0, 9, 132, 2, 1, 167, 255, 230, 28, 42, 180, 0, 87]
abbrev dktX6_has_2 : List UInt8 := dkwX6_has_2 ++ dktX6_has_3
def dkwX6_has_1 : List UInt8 := [3, 182, 0, 100, 159, 0, 5, 3, 172, 42, 180, 0, 87, 61, 28, 42, 180, 0, 90, 162, 0, 24, 42, 28]
abbrev dktX6_has_1 : List UInt8 := dkwX6_has_1 ++ dktX6_has_2
def dkwX6_has_0 : List UInt8 := [42, 182, 0, 97, 42, 180, 0, 87, 42, 180, 0, 90, 162, 0, 19, 42, 42, 180, 0, 87, 182, 0, 93, 43]
abbrev dktX6_has_0 : List UInt8 := dkwX6_has_0 ++ dktX6_has_1
theorem dksX6_has_0 : cX6_has.data.toList.drop 0 = dktX6_has_0 := by decide +kernel
theorem dksX6_has_1 : cX6_has.data.toList.drop 24 = dktX6_has_1 := dk_seg dksX6_has_0 24 rfl rfl
theorem dksX6_has_2 : cX6_has.data.toList.drop 48 = dktX6_has_2 := dk_seg dksX6_has_1 24 rfl rfl
theorem dksX6_has_3 : cX6_has.data.toList.drop 72 = dktX6_has_3 := dk_seg dksX6_has_2 24 rfl rfl
theorem dksX6_has_4 : cX6_has.data.toList.drop 94 = dktX6_has_4 := dk_seg dksX6_has_3 22 rfl rfl
theorem dksX6_has_5 : cX6_has.data.toList.drop 118 = dktX6_has_5 := dk_seg dksX6_has_4 24 rfl rfl
theorem dX6_has_0 : decode cX6_has 0 = .ok (.aload_n 0, 1) := dk_42 (dk_at dksX6_has_0 0 rfl rfl)
theorem dX6_has_1 : decode cX6_has 1 = .ok (.invokevirtual 97, 3) := dk_182 0 97 (dk_at dksX6_has_0 1 rfl rfl)
theorem dX6_has_4 : decode cX6_has 4 = .ok (.aload_n 0, 1) := dk_42 (dk_at dksX6_has_0 4 rfl rfl)
theorem dX6_has_5 : decode cX6_has 5 = .ok (.getfield 87, 3) := dk_180 0 87 (dk_at dksX6_has_0 5 rfl rfl)
theorem dX6_has_8 : decode cX6_has 8 = .ok (.aload_n 0, 1) := dk_42 (dk_at dksX6_has_0 8 rfl rfl)
theorem dX6_has_9 : decode cX6_has 9 = .ok (.getfield 90, 3) := dk_180 0 90 (dk_at dksX6_has_0 9 rfl rfl)
theorem dX6_has_12 : decode cX6_has 12 = .ok (.if_icmp .ge 19, 3) := dk_162 0 19 (dk_at dksX6_has_0 12 rfl rfl)
theorem dX6_has_15 : decode cX6_has 15 = .ok (.aload_n 0, 1) := dk_42 (dk_at dksX6_has_0 15 rfl rfl)
theorem dX6_has_16 : decode cX6_has 16 = .ok (.aload_n 0, 1) := dk_42 (dk_at dksX6_has_0 16 rfl rfl)
theorem dX6_has_17 : decode cX6_has 17 = .ok (.getfield 87, 3) := dk_180 0 87 (dk_at dksX6_has_0 17 rfl rfl)
theorem dX6_has_20 : decode cX6_has 20 = .ok (.invokevirtual 93, 3) := dk_182 0 93 (dk_at dksX6_has_0 20 rfl rfl)
theorem dX6_has_23 : decode cX6_has 23 = .ok (.aload_n 1, 1) := dk_43 (dk_at dksX6_has_0 23 rfl rfl)
theorem dX6_has_24 : decode cX6_has 24 = .ok (.iconst 0, 1) := dk_3 (dk_at dksX6_has_1 0 rfl rfl)
theorem dX6_has_25 : decode cX6_has 25 = .ok (.invokevirtual 100, 3) := dk_182 0 100 (dk_at dksX6_has_1 1 rfl rfl)
theorem dX6_has_28 : decode cX6_has 28 = .ok (.if_icmp .eq 5, 3) := dk_159 0 5 (dk_at dksX6_has_1 4 rfl rfl)
theorem dX6_has_31 : decode cX6_has 31 = .ok (.iconst 0, 1) := dk_3 (dk_at dksX6_has_1 7 rfl rfl)
theorem dX6_has_32 : decode cX6_has 32 = .ok (.ireturn, 1) := dk_172 (dk_at dksX6_has_1 8 rfl rfl)
theorem dX6_has_33 : decode cX6_has 33 = .ok (.aload_n 0, 1) := dk_42 (dk_at dksX6_has_1 9 rfl rfl)
theorem dX6_has_34 : decode cX6_has 34 = .ok (.getfield 87, 3) := dk_180 0 87 (dk_at dksX6_has_1 10 rfl rfl)
theorem dX6_has_37 : decode cX6_has 37 = .ok (.istore_n 2, 1) := dk_61 (dk_at dksX6_has_1 13 rfl rfl)
theorem dX6_has_38 : decode cX6_has 38 = .ok (.iload_n 2, 1) := dk_28 (dk_at dksX6_has_1 14 rfl rfl)
theorem dX6_has_39 : decode cX6_has 39 = .ok (.aload_n 0, 1) := dk_42 (dk_at dksX6_has_1 15 rfl rfl)
theorem dX6_has_40 : decode cX6_has 40 = .ok (.getfield 90, 3) := dk_180 0 90 (dk_at dksX6_has_1 16 rfl rfl)
theorem dX6_has_43 : decode cX6_has 43 = .ok (.if_icmp .ge 24, 3) := dk_162 0 24 (dk_at dksX6_has_1 19 rfl rfl)
theorem dX6_has_46 : decode cX6_has 46 = .ok (.aload_n 0, 1) := dk_42 (dk_at dksX6_has_1 22 rfl rfl)
theorem dX6_has_47 : decode cX6_has 47 = .ok (.iload_n 2, 1) := dk_28 (dk_at dksX6_has_1 23 rfl rfl)
theorem dX6_has_48 : decode cX6_has 48 = .ok (.invokevirtual 93, 3) := dk_182 0 93 (dk_at dksX6_has_2 0 rfl rfl)
theorem dX6_has_51 : decode cX6_has 51 = .ok (.bipush 97, 2) := dk_16 97 (dk_at dksX6_has_2 3 rfl rfl)
theorem dX6_has_53 : decode cX6_has 53 = .ok (.bipush 122, 2) := dk_16 122 (dk_at dksX6_has_2 5 rfl rfl)
theorem dX6_has_55 : decode cX6_has 55 = .ok (.invokestatic 57, 3) := dk_184 0 57 (dk_at dksX6_has_2 7 rfl rfl)
theorem dX6_has_58 : decode cX6_has 58 = .ok (.ifCond .eq 9, 3) := dk_153 0 9 (dk_at dksX6_has_2 10 rfl rfl)
theorem dX6_has_61 : decode cX6_has 61 = .ok (.iinc 2 1, 3) := dk_132 2 1 (dk_at dksX6_has_2 13 rfl rfl)
theorem dX6_has_64 : decode cX6_has 64 = .ok (.goto (-26), 3) := dk_167 255 230 (dk_at dksX6_has_2 16 rfl rfl)
theorem dX6_has_67 : decode cX6_has 67 = .ok (.iload_n 2, 1) := dk_28 (dk_at dksX6_has_2 19 rfl rfl)
theorem dX6_has_68 : decode cX6_has 68 = .ok (.aload_n 0, 1) := dk_42 (dk_at dksX6_has_2 20 rfl rfl)
theorem dX6_has_69 : decode cX6_has 69 = .ok (.getfield 87, 3) := dk_180 0 87 (dk_at dksX6_has_2 21 rfl rfl)
theorem dX6_has_72 : decode cX6_has 72 = .ok (.isub, 1) := dk_100 (dk_at dksX6_has_3 0 rfl rfl)
theorem dX6_has_73 : decode cX6_has 73 = .ok (.aload_n 1, 1) := dk_43 (dk_at dksX6_has_3 1 rfl rfl)
theorem dX6_has_74 : decode cX6_has 74 = .ok (.invokevirtual 106, 3) := dk_182 0 106 (dk_at dksX6_has_3 2 rfl rfl)
theorem dX6_has_77 : decode cX6_has 77 = .ok (.if_icmp .eq 5, 3) := dk_159 0 5 (dk_at dksX6_has_3 5 rfl rfl)
theorem dX6_has_80 : decode cX6_has 80 = .ok (.iconst 0, 1) := dk_3 (dk_at dksX6_has_3 8 rfl rfl)
theorem dX6_has_81 : decode cX6_has 81 = .ok (.ireturn, 1) := dk_172 (dk_at dksX6_has_3 9 rfl rfl)
theorem dX6_has_82 : decode cX6_has 82 = .ok (.iconst 0, 1) := dk_3 (dk_at dksX6_has_3 10 rfl rfl)
theorem dX6_has_83 : decode cX6_has 83 = .ok (.istore_n 3, 1) := dk_62 (dk_at dksX6_has_3 11 rfl rfl)
theorem dX6_has_84 : decode cX6_has 84 = .ok (.iload_n 3, 1) := dk_29 (dk_at dksX6_has_3 12 rfl rfl)
theorem dX6_has_85 : decode cX6_has 85 = .ok (.aload_n 1, 1) := dk_43 (dk_at dksX6_has_3 13 rfl rfl)
theorem dX6_has_86 : decode cX6_has 86 = .ok (.invokevirtual 106, 3) := dk_182 0 106 (dk_at dksX6_has_3 14 rfl rfl)
theorem dX6_has_89 : decode cX6_has 89 = .ok (.if_icmp .ge 29, 3) := dk_162 0 29 (dk_at dksX6_has_3 17 rfl rfl)
theorem dX6_has_92 : decode cX6_has 92 = .ok (.aload_n 0, 1) := dk_42 (dk_at dksX6_has_3 20 rfl rfl)
theorem dX6_has_93 : decode cX6_has 93 = .ok (.aload_n 0, 1) := dk_42 (dk_at dksX6_has_3 21 rfl rfl)
theorem dX6_has_94 : decode cX6_has 94 = .ok (.getfield 87, 3) := dk_180 0 87 (dk_at dksX6_has_4 0 rfl rfl)
theorem dX6_has_97 : decode cX6_has 97 = .ok (.iload_n 3, 1) := dk_29 (dk_at dksX6_has_4 3 rfl rfl)
theorem dX6_has_98 : decode cX6_has 98 = .ok (.iadd, 1) := dk_96 (dk_at dksX6_has_4 4 rfl rfl)
theorem dX6_has_99 : decode cX6_has 99 = .ok (.invokevirtual 93, 3) := dk_182 0 93 (dk_at dksX6_has_4 5 rfl rfl)
theorem dX6_has_102 : decode cX6_has 102 = .ok (.aload_n 1, 1) := dk_43 (dk_at dksX6_has_4 8 rfl rfl)
theorem dX6_has_103 : decode cX6_has 103 = .ok (.iload_n 3, 1) := dk_29 (dk_at dksX6_has_4 9 rfl rfl)
theorem dX6_has_104 : decode cX6_has 104 = .ok (.invokevirtual 100, 3) := dk_182 0 100 (dk_at dksX6_has_4 10 rfl rfl)
theorem dX6_has_107 : decode cX6_has 107 = .ok (.if_icmp .eq 5, 3) := dk_159 0 5 (dk_at dksX6_has_4 13 rfl rfl)
theorem dX6_has_110 : decode cX6_has 110 = .ok (.iconst 0, 1) := dk_3 (dk_at dksX6_has_4 16 rfl rfl)
theorem dX6_has_111 : decode cX6_has 111 = .ok (.ireturn, 1) := dk_172 (dk_at dksX6_has_4 17 rfl rfl)
theorem dX6_has_112 : decode cX6_has 112 = .ok (.iinc 3 1, 3) := dk_132 3 1 (dk_at dksX6_has_4 18 rfl rfl)
theorem dX6_has_115 : decode cX6_has 115 = .ok (.goto (-31), 3) := dk_167 255 225 (dk_at dksX6_has_4 21 rfl rfl)
theorem dX6_has_118 : decode cX6_has 118 = .ok (.aload_n 0, 1) := dk_42 (dk_at dksX6_has_5 0 rfl rfl)
theorem dX6_has_119 : decode cX6_has 119 = .ok (.iload_n 2, 1) := dk_28 (dk_at dksX6_has_5 1 rfl rfl)
theorem dX6_has_120 : decode cX6_has 120 = .ok (.putfield 87, 3) := dk_181 0 87 (dk_at dksX6_has_5 2 rfl rfl)
theorem dX6_has_123 : decode cX6_has 123 = .ok (.iconst 1, 1) := dk_4 (dk_at dksX6_has_5 5 rfl rfl)
theorem dX6_has_124 : decode cX6_has 124 = .ok (.ireturn, 1) := dk_172 (dk_at dksX6_has_5 6 rfl rfl)
abbrev cX6_figures : ByteArray := prog_19_method_28_code
def yX6_figures : MethodName := ⟨RX6, "figures", "(II)I"⟩
def dkwX6_figures_5 : List UInt8 := [164, 0, 8, 42, 29, 182, 0, 113, 21, 4, 172]
abbrev dktX6_figures_5 : List UInt8 := dkwX6_figures_5 ++ []
def dkwX6_figures_4 : List UInt8 := [159, 0, 25, 42, 180, 0, 87, 29, 100, 6, 163, 0, 15, 21, 4, 27, 161, 0, 9, 21, 4, 28]
abbrev dktX6_figures_4 : List UInt8 := dkwX6_figures_4 ++ dktX6_figures_5
def dkwX6_figures_3 : List UInt8 := [16, 48, 100, 54, 4, 42, 89, 180, 0, 87, 4, 96, 181, 0, 87, 167, 255, 188, 42, 180, 0, 87, 29]
abbrev dktX6_figures_3 : List UInt8 := dkwX6_figures_3 ++ dktX6_figures_4
def dkwX6_figures_2 : List UInt8 := [42, 180, 0, 87, 29, 100, 6, 163, 0, 35, 16, 10, 21, 4, 104, 42, 42, 180, 0, 87, 182, 0, 93, 96]
abbrev dktX6_figures_2 : List UInt8 := dkwX6_figures_2 ++ dktX6_figures_3
def dkwX6_figures_1 : List UInt8 := [180, 0, 90, 162, 0, 63, 42, 42, 180, 0, 87, 182, 0, 93, 16, 48, 16, 57, 184, 0, 57, 153, 0, 45]
abbrev dktX6_figures_1 : List UInt8 := dkwX6_figures_1 ++ dktX6_figures_2
def dkwX6_figures_0 : List UInt8 := [42, 180, 0, 25, 2, 159, 0, 5, 3, 172, 42, 182, 0, 110, 62, 3, 54, 4, 42, 180, 0, 87, 42]
abbrev dktX6_figures_0 : List UInt8 := dkwX6_figures_0 ++ dktX6_figures_1
theorem dksX6_figures_0 : cX6_figures.data.toList.drop 0 = dktX6_figures_0 := by decide +kernel
theorem dksX6_figures_1 : cX6_figures.data.toList.drop 23 = dktX6_figures_1 := dk_seg dksX6_figures_0 23 rfl rfl
theorem dksX6_figures_2 : cX6_figures.data.toList.drop 47 = dktX6_figures_2 := dk_seg dksX6_figures_1 24 rfl rfl
theorem dksX6_figures_3 : cX6_figures.data.toList.drop 71 = dktX6_figures_3 := dk_seg dksX6_figures_2 24 rfl rfl
theorem dksX6_figures_4 : cX6_figures.data.toList.drop 94 = dktX6_figures_4 := dk_seg dksX6_figures_3 23 rfl rfl
theorem dksX6_figures_5 : cX6_figures.data.toList.drop 116 = dktX6_figures_5 := dk_seg dksX6_figures_4 22 rfl rfl
theorem dX6_figures_0 : decode cX6_figures 0 = .ok (.aload_n 0, 1) := dk_42 (dk_at dksX6_figures_0 0 rfl rfl)
theorem dX6_figures_1 : decode cX6_figures 1 = .ok (.getfield 25, 3) := dk_180 0 25 (dk_at dksX6_figures_0 1 rfl rfl)
theorem dX6_figures_4 : decode cX6_figures 4 = .ok (.iconst (-1), 1) := dk_2 (dk_at dksX6_figures_0 4 rfl rfl)
theorem dX6_figures_5 : decode cX6_figures 5 = .ok (.if_icmp .eq 5, 3) := dk_159 0 5 (dk_at dksX6_figures_0 5 rfl rfl)
theorem dX6_figures_8 : decode cX6_figures 8 = .ok (.iconst 0, 1) := dk_3 (dk_at dksX6_figures_0 8 rfl rfl)
theorem dX6_figures_9 : decode cX6_figures 9 = .ok (.ireturn, 1) := dk_172 (dk_at dksX6_figures_0 9 rfl rfl)
theorem dX6_figures_10 : decode cX6_figures 10 = .ok (.aload_n 0, 1) := dk_42 (dk_at dksX6_figures_0 10 rfl rfl)
theorem dX6_figures_11 : decode cX6_figures 11 = .ok (.invokevirtual 110, 3) := dk_182 0 110 (dk_at dksX6_figures_0 11 rfl rfl)
theorem dX6_figures_14 : decode cX6_figures 14 = .ok (.istore_n 3, 1) := dk_62 (dk_at dksX6_figures_0 14 rfl rfl)
theorem dX6_figures_15 : decode cX6_figures 15 = .ok (.iconst 0, 1) := dk_3 (dk_at dksX6_figures_0 15 rfl rfl)
theorem dX6_figures_16 : decode cX6_figures 16 = .ok (.istore 4, 2) := dk_54 4 (dk_at dksX6_figures_0 16 rfl rfl)
theorem dX6_figures_18 : decode cX6_figures 18 = .ok (.aload_n 0, 1) := dk_42 (dk_at dksX6_figures_0 18 rfl rfl)
theorem dX6_figures_19 : decode cX6_figures 19 = .ok (.getfield 87, 3) := dk_180 0 87 (dk_at dksX6_figures_0 19 rfl rfl)
theorem dX6_figures_22 : decode cX6_figures 22 = .ok (.aload_n 0, 1) := dk_42 (dk_at dksX6_figures_0 22 rfl rfl)
theorem dX6_figures_23 : decode cX6_figures 23 = .ok (.getfield 90, 3) := dk_180 0 90 (dk_at dksX6_figures_1 0 rfl rfl)
theorem dX6_figures_26 : decode cX6_figures 26 = .ok (.if_icmp .ge 63, 3) := dk_162 0 63 (dk_at dksX6_figures_1 3 rfl rfl)
theorem dX6_figures_29 : decode cX6_figures 29 = .ok (.aload_n 0, 1) := dk_42 (dk_at dksX6_figures_1 6 rfl rfl)
theorem dX6_figures_30 : decode cX6_figures 30 = .ok (.aload_n 0, 1) := dk_42 (dk_at dksX6_figures_1 7 rfl rfl)
theorem dX6_figures_31 : decode cX6_figures 31 = .ok (.getfield 87, 3) := dk_180 0 87 (dk_at dksX6_figures_1 8 rfl rfl)
theorem dX6_figures_34 : decode cX6_figures 34 = .ok (.invokevirtual 93, 3) := dk_182 0 93 (dk_at dksX6_figures_1 11 rfl rfl)
theorem dX6_figures_37 : decode cX6_figures 37 = .ok (.bipush 48, 2) := dk_16 48 (dk_at dksX6_figures_1 14 rfl rfl)
theorem dX6_figures_39 : decode cX6_figures 39 = .ok (.bipush 57, 2) := dk_16 57 (dk_at dksX6_figures_1 16 rfl rfl)
theorem dX6_figures_41 : decode cX6_figures 41 = .ok (.invokestatic 57, 3) := dk_184 0 57 (dk_at dksX6_figures_1 18 rfl rfl)
theorem dX6_figures_44 : decode cX6_figures 44 = .ok (.ifCond .eq 45, 3) := dk_153 0 45 (dk_at dksX6_figures_1 21 rfl rfl)
theorem dX6_figures_47 : decode cX6_figures 47 = .ok (.aload_n 0, 1) := dk_42 (dk_at dksX6_figures_2 0 rfl rfl)
theorem dX6_figures_48 : decode cX6_figures 48 = .ok (.getfield 87, 3) := dk_180 0 87 (dk_at dksX6_figures_2 1 rfl rfl)
theorem dX6_figures_51 : decode cX6_figures 51 = .ok (.iload_n 3, 1) := dk_29 (dk_at dksX6_figures_2 4 rfl rfl)
theorem dX6_figures_52 : decode cX6_figures 52 = .ok (.isub, 1) := dk_100 (dk_at dksX6_figures_2 5 rfl rfl)
theorem dX6_figures_53 : decode cX6_figures 53 = .ok (.iconst 3, 1) := dk_6 (dk_at dksX6_figures_2 6 rfl rfl)
theorem dX6_figures_54 : decode cX6_figures 54 = .ok (.if_icmp .gt 35, 3) := dk_163 0 35 (dk_at dksX6_figures_2 7 rfl rfl)
theorem dX6_figures_57 : decode cX6_figures 57 = .ok (.bipush 10, 2) := dk_16 10 (dk_at dksX6_figures_2 10 rfl rfl)
theorem dX6_figures_59 : decode cX6_figures 59 = .ok (.iload 4, 2) := dk_21 4 (dk_at dksX6_figures_2 12 rfl rfl)
theorem dX6_figures_61 : decode cX6_figures 61 = .ok (.imul, 1) := dk_104 (dk_at dksX6_figures_2 14 rfl rfl)
theorem dX6_figures_62 : decode cX6_figures 62 = .ok (.aload_n 0, 1) := dk_42 (dk_at dksX6_figures_2 15 rfl rfl)
theorem dX6_figures_63 : decode cX6_figures 63 = .ok (.aload_n 0, 1) := dk_42 (dk_at dksX6_figures_2 16 rfl rfl)
theorem dX6_figures_64 : decode cX6_figures 64 = .ok (.getfield 87, 3) := dk_180 0 87 (dk_at dksX6_figures_2 17 rfl rfl)
theorem dX6_figures_67 : decode cX6_figures 67 = .ok (.invokevirtual 93, 3) := dk_182 0 93 (dk_at dksX6_figures_2 20 rfl rfl)
theorem dX6_figures_70 : decode cX6_figures 70 = .ok (.iadd, 1) := dk_96 (dk_at dksX6_figures_2 23 rfl rfl)
theorem dX6_figures_71 : decode cX6_figures 71 = .ok (.bipush 48, 2) := dk_16 48 (dk_at dksX6_figures_3 0 rfl rfl)
theorem dX6_figures_73 : decode cX6_figures 73 = .ok (.isub, 1) := dk_100 (dk_at dksX6_figures_3 2 rfl rfl)
theorem dX6_figures_74 : decode cX6_figures 74 = .ok (.istore 4, 2) := dk_54 4 (dk_at dksX6_figures_3 3 rfl rfl)
theorem dX6_figures_76 : decode cX6_figures 76 = .ok (.aload_n 0, 1) := dk_42 (dk_at dksX6_figures_3 5 rfl rfl)
theorem dX6_figures_77 : decode cX6_figures 77 = .ok (.dup, 1) := dk_89 (dk_at dksX6_figures_3 6 rfl rfl)
theorem dX6_figures_78 : decode cX6_figures 78 = .ok (.getfield 87, 3) := dk_180 0 87 (dk_at dksX6_figures_3 7 rfl rfl)
theorem dX6_figures_81 : decode cX6_figures 81 = .ok (.iconst 1, 1) := dk_4 (dk_at dksX6_figures_3 10 rfl rfl)
theorem dX6_figures_82 : decode cX6_figures 82 = .ok (.iadd, 1) := dk_96 (dk_at dksX6_figures_3 11 rfl rfl)
theorem dX6_figures_83 : decode cX6_figures 83 = .ok (.putfield 87, 3) := dk_181 0 87 (dk_at dksX6_figures_3 12 rfl rfl)
theorem dX6_figures_86 : decode cX6_figures 86 = .ok (.goto (-68), 3) := dk_167 255 188 (dk_at dksX6_figures_3 15 rfl rfl)
theorem dX6_figures_89 : decode cX6_figures 89 = .ok (.aload_n 0, 1) := dk_42 (dk_at dksX6_figures_3 18 rfl rfl)
theorem dX6_figures_90 : decode cX6_figures 90 = .ok (.getfield 87, 3) := dk_180 0 87 (dk_at dksX6_figures_3 19 rfl rfl)
theorem dX6_figures_93 : decode cX6_figures 93 = .ok (.iload_n 3, 1) := dk_29 (dk_at dksX6_figures_3 22 rfl rfl)
theorem dX6_figures_94 : decode cX6_figures 94 = .ok (.if_icmp .eq 25, 3) := dk_159 0 25 (dk_at dksX6_figures_4 0 rfl rfl)
theorem dX6_figures_97 : decode cX6_figures 97 = .ok (.aload_n 0, 1) := dk_42 (dk_at dksX6_figures_4 3 rfl rfl)
theorem dX6_figures_98 : decode cX6_figures 98 = .ok (.getfield 87, 3) := dk_180 0 87 (dk_at dksX6_figures_4 4 rfl rfl)
theorem dX6_figures_101 : decode cX6_figures 101 = .ok (.iload_n 3, 1) := dk_29 (dk_at dksX6_figures_4 7 rfl rfl)
theorem dX6_figures_102 : decode cX6_figures 102 = .ok (.isub, 1) := dk_100 (dk_at dksX6_figures_4 8 rfl rfl)
theorem dX6_figures_103 : decode cX6_figures 103 = .ok (.iconst 3, 1) := dk_6 (dk_at dksX6_figures_4 9 rfl rfl)
theorem dX6_figures_104 : decode cX6_figures 104 = .ok (.if_icmp .gt 15, 3) := dk_163 0 15 (dk_at dksX6_figures_4 10 rfl rfl)
theorem dX6_figures_107 : decode cX6_figures 107 = .ok (.iload 4, 2) := dk_21 4 (dk_at dksX6_figures_4 13 rfl rfl)
theorem dX6_figures_109 : decode cX6_figures 109 = .ok (.iload_n 1, 1) := dk_27 (dk_at dksX6_figures_4 15 rfl rfl)
theorem dX6_figures_110 : decode cX6_figures 110 = .ok (.if_icmp .lt 9, 3) := dk_161 0 9 (dk_at dksX6_figures_4 16 rfl rfl)
theorem dX6_figures_113 : decode cX6_figures 113 = .ok (.iload 4, 2) := dk_21 4 (dk_at dksX6_figures_4 19 rfl rfl)
theorem dX6_figures_115 : decode cX6_figures 115 = .ok (.iload_n 2, 1) := dk_28 (dk_at dksX6_figures_4 21 rfl rfl)
theorem dX6_figures_116 : decode cX6_figures 116 = .ok (.if_icmp .le 8, 3) := dk_164 0 8 (dk_at dksX6_figures_5 0 rfl rfl)
theorem dX6_figures_119 : decode cX6_figures 119 = .ok (.aload_n 0, 1) := dk_42 (dk_at dksX6_figures_5 3 rfl rfl)
theorem dX6_figures_120 : decode cX6_figures 120 = .ok (.iload_n 3, 1) := dk_29 (dk_at dksX6_figures_5 4 rfl rfl)
theorem dX6_figures_121 : decode cX6_figures 121 = .ok (.invokevirtual 113, 3) := dk_182 0 113 (dk_at dksX6_figures_5 5 rfl rfl)
theorem dX6_figures_124 : decode cX6_figures 124 = .ok (.iload 4, 2) := dk_21 4 (dk_at dksX6_figures_5 8 rfl rfl)
theorem dX6_figures_126 : decode cX6_figures 126 = .ok (.ireturn, 1) := dk_172 (dk_at dksX6_figures_5 10 rfl rfl)
abbrev cX6_here : ByteArray := prog_19_method_27_code
def yX6_here : MethodName := ⟨RX6, "here", "()I"⟩
def dkwX6_here_0 : List UInt8 := [42, 182, 0, 97, 42, 180, 0, 87, 172]
abbrev dktX6_here_0 : List UInt8 := dkwX6_here_0 ++ []
theorem dksX6_here_0 : cX6_here.data.toList.drop 0 = dktX6_here_0 := by decide +kernel
theorem dX6_here_0 : decode cX6_here 0 = .ok (.aload_n 0, 1) := dk_42 (dk_at dksX6_here_0 0 rfl rfl)
theorem dX6_here_1 : decode cX6_here 1 = .ok (.invokevirtual 97, 3) := dk_182 0 97 (dk_at dksX6_here_0 1 rfl rfl)
theorem dX6_here_4 : decode cX6_here 4 = .ok (.aload_n 0, 1) := dk_42 (dk_at dksX6_here_0 4 rfl rfl)
theorem dX6_here_5 : decode cX6_here 5 = .ok (.getfield 87, 3) := dk_180 0 87 (dk_at dksX6_here_0 5 rfl rfl)
theorem dX6_here_8 : decode cX6_here 8 = .ok (.ireturn, 1) := dk_172 (dk_at dksX6_here_0 8 rfl rfl)
abbrev cX6_some : ByteArray := prog_19_method_47_code
def yX6_some : MethodName := ⟨RX6, "some", "()Z"⟩
def dkwX6_some_1 : List UInt8 := [182, 0, 247, 61, 27, 154, 0, 7, 28, 153, 0, 7, 4, 167, 0, 4, 3, 60, 167, 255, 220, 27, 172]
abbrev dktX6_some_1 : List UInt8 := dkwX6_some_1 ++ []
def dkwX6_some_0 : List UInt8 := [42, 182, 0, 247, 60, 42, 180, 0, 25, 2, 160, 0, 34, 42, 18, 250, 182, 0, 117, 153, 0, 25, 42]
abbrev dktX6_some_0 : List UInt8 := dkwX6_some_0 ++ dktX6_some_1
theorem dksX6_some_0 : cX6_some.data.toList.drop 0 = dktX6_some_0 := by decide +kernel
theorem dksX6_some_1 : cX6_some.data.toList.drop 23 = dktX6_some_1 := dk_seg dksX6_some_0 23 rfl rfl
theorem dX6_some_0 : decode cX6_some 0 = .ok (.aload_n 0, 1) := dk_42 (dk_at dksX6_some_0 0 rfl rfl)
theorem dX6_some_1 : decode cX6_some 1 = .ok (.invokevirtual 247, 3) := dk_182 0 247 (dk_at dksX6_some_0 1 rfl rfl)
theorem dX6_some_4 : decode cX6_some 4 = .ok (.istore_n 1, 1) := dk_60 (dk_at dksX6_some_0 4 rfl rfl)
theorem dX6_some_5 : decode cX6_some 5 = .ok (.aload_n 0, 1) := dk_42 (dk_at dksX6_some_0 5 rfl rfl)
theorem dX6_some_6 : decode cX6_some 6 = .ok (.getfield 25, 3) := dk_180 0 25 (dk_at dksX6_some_0 6 rfl rfl)
theorem dX6_some_9 : decode cX6_some 9 = .ok (.iconst (-1), 1) := dk_2 (dk_at dksX6_some_0 9 rfl rfl)
theorem dX6_some_10 : decode cX6_some 10 = .ok (.if_icmp .ne 34, 3) := dk_160 0 34 (dk_at dksX6_some_0 10 rfl rfl)
theorem dX6_some_13 : decode cX6_some 13 = .ok (.aload_n 0, 1) := dk_42 (dk_at dksX6_some_0 13 rfl rfl)
theorem dX6_some_14 : decode cX6_some 14 = .ok (.ldc 250, 2) := dk_18 250 (dk_at dksX6_some_0 14 rfl rfl)
theorem dX6_some_16 : decode cX6_some 16 = .ok (.invokevirtual 117, 3) := dk_182 0 117 (dk_at dksX6_some_0 16 rfl rfl)
theorem dX6_some_19 : decode cX6_some 19 = .ok (.ifCond .eq 25, 3) := dk_153 0 25 (dk_at dksX6_some_0 19 rfl rfl)
theorem dX6_some_22 : decode cX6_some 22 = .ok (.aload_n 0, 1) := dk_42 (dk_at dksX6_some_0 22 rfl rfl)
theorem dX6_some_23 : decode cX6_some 23 = .ok (.invokevirtual 247, 3) := dk_182 0 247 (dk_at dksX6_some_1 0 rfl rfl)
theorem dX6_some_26 : decode cX6_some 26 = .ok (.istore_n 2, 1) := dk_61 (dk_at dksX6_some_1 3 rfl rfl)
theorem dX6_some_27 : decode cX6_some 27 = .ok (.iload_n 1, 1) := dk_27 (dk_at dksX6_some_1 4 rfl rfl)
theorem dX6_some_28 : decode cX6_some 28 = .ok (.ifCond .ne 7, 3) := dk_154 0 7 (dk_at dksX6_some_1 5 rfl rfl)
theorem dX6_some_31 : decode cX6_some 31 = .ok (.iload_n 2, 1) := dk_28 (dk_at dksX6_some_1 8 rfl rfl)
theorem dX6_some_32 : decode cX6_some 32 = .ok (.ifCond .eq 7, 3) := dk_153 0 7 (dk_at dksX6_some_1 9 rfl rfl)
theorem dX6_some_35 : decode cX6_some 35 = .ok (.iconst 1, 1) := dk_4 (dk_at dksX6_some_1 12 rfl rfl)
theorem dX6_some_36 : decode cX6_some 36 = .ok (.goto 4, 3) := dk_167 0 4 (dk_at dksX6_some_1 13 rfl rfl)
theorem dX6_some_39 : decode cX6_some 39 = .ok (.iconst 0, 1) := dk_3 (dk_at dksX6_some_1 16 rfl rfl)
theorem dX6_some_40 : decode cX6_some 40 = .ok (.istore_n 1, 1) := dk_60 (dk_at dksX6_some_1 17 rfl rfl)
theorem dX6_some_41 : decode cX6_some 41 = .ok (.goto (-36), 3) := dk_167 255 220 (dk_at dksX6_some_1 18 rfl rfl)
theorem dX6_some_44 : decode cX6_some 44 = .ok (.iload_n 1, 1) := dk_27 (dk_at dksX6_some_1 21 rfl rfl)
theorem dX6_some_45 : decode cX6_some 45 = .ok (.ireturn, 1) := dk_172 (dk_at dksX6_some_1 22 rfl rfl)
abbrev cX6_every : ByteArray := prog_19_method_46_code
def yX6_every : MethodName := ⟨RX6, "every", "()Z"⟩
def dkwX6_every_1 : List UInt8 := [182, 0, 239, 61, 27, 153, 0, 11, 28, 153, 0, 7, 4, 167, 0, 4, 3, 60, 167, 255, 220, 27, 172]
abbrev dktX6_every_1 : List UInt8 := dkwX6_every_1 ++ []
def dkwX6_every_0 : List UInt8 := [42, 182, 0, 239, 60, 42, 180, 0, 25, 2, 160, 0, 34, 42, 18, 245, 182, 0, 117, 153, 0, 25, 42]
abbrev dktX6_every_0 : List UInt8 := dkwX6_every_0 ++ dktX6_every_1
theorem dksX6_every_0 : cX6_every.data.toList.drop 0 = dktX6_every_0 := by decide +kernel
theorem dksX6_every_1 : cX6_every.data.toList.drop 23 = dktX6_every_1 := dk_seg dksX6_every_0 23 rfl rfl
theorem dX6_every_0 : decode cX6_every 0 = .ok (.aload_n 0, 1) := dk_42 (dk_at dksX6_every_0 0 rfl rfl)
theorem dX6_every_1 : decode cX6_every 1 = .ok (.invokevirtual 239, 3) := dk_182 0 239 (dk_at dksX6_every_0 1 rfl rfl)
theorem dX6_every_4 : decode cX6_every 4 = .ok (.istore_n 1, 1) := dk_60 (dk_at dksX6_every_0 4 rfl rfl)
theorem dX6_every_5 : decode cX6_every 5 = .ok (.aload_n 0, 1) := dk_42 (dk_at dksX6_every_0 5 rfl rfl)
theorem dX6_every_6 : decode cX6_every 6 = .ok (.getfield 25, 3) := dk_180 0 25 (dk_at dksX6_every_0 6 rfl rfl)
theorem dX6_every_9 : decode cX6_every 9 = .ok (.iconst (-1), 1) := dk_2 (dk_at dksX6_every_0 9 rfl rfl)
theorem dX6_every_10 : decode cX6_every 10 = .ok (.if_icmp .ne 34, 3) := dk_160 0 34 (dk_at dksX6_every_0 10 rfl rfl)
theorem dX6_every_13 : decode cX6_every 13 = .ok (.aload_n 0, 1) := dk_42 (dk_at dksX6_every_0 13 rfl rfl)
theorem dX6_every_14 : decode cX6_every 14 = .ok (.ldc 245, 2) := dk_18 245 (dk_at dksX6_every_0 14 rfl rfl)
theorem dX6_every_16 : decode cX6_every 16 = .ok (.invokevirtual 117, 3) := dk_182 0 117 (dk_at dksX6_every_0 16 rfl rfl)
theorem dX6_every_19 : decode cX6_every 19 = .ok (.ifCond .eq 25, 3) := dk_153 0 25 (dk_at dksX6_every_0 19 rfl rfl)
theorem dX6_every_22 : decode cX6_every 22 = .ok (.aload_n 0, 1) := dk_42 (dk_at dksX6_every_0 22 rfl rfl)
theorem dX6_every_23 : decode cX6_every 23 = .ok (.invokevirtual 239, 3) := dk_182 0 239 (dk_at dksX6_every_1 0 rfl rfl)
theorem dX6_every_26 : decode cX6_every 26 = .ok (.istore_n 2, 1) := dk_61 (dk_at dksX6_every_1 3 rfl rfl)
theorem dX6_every_27 : decode cX6_every 27 = .ok (.iload_n 1, 1) := dk_27 (dk_at dksX6_every_1 4 rfl rfl)
theorem dX6_every_28 : decode cX6_every 28 = .ok (.ifCond .eq 11, 3) := dk_153 0 11 (dk_at dksX6_every_1 5 rfl rfl)
theorem dX6_every_31 : decode cX6_every 31 = .ok (.iload_n 2, 1) := dk_28 (dk_at dksX6_every_1 8 rfl rfl)
theorem dX6_every_32 : decode cX6_every 32 = .ok (.ifCond .eq 7, 3) := dk_153 0 7 (dk_at dksX6_every_1 9 rfl rfl)
theorem dX6_every_35 : decode cX6_every 35 = .ok (.iconst 1, 1) := dk_4 (dk_at dksX6_every_1 12 rfl rfl)
theorem dX6_every_36 : decode cX6_every 36 = .ok (.goto 4, 3) := dk_167 0 4 (dk_at dksX6_every_1 13 rfl rfl)
theorem dX6_every_39 : decode cX6_every 39 = .ok (.iconst 0, 1) := dk_3 (dk_at dksX6_every_1 16 rfl rfl)
theorem dX6_every_40 : decode cX6_every 40 = .ok (.istore_n 1, 1) := dk_60 (dk_at dksX6_every_1 17 rfl rfl)
theorem dX6_every_41 : decode cX6_every 41 = .ok (.goto (-36), 3) := dk_167 255 220 (dk_at dksX6_every_1 18 rfl rfl)
theorem dX6_every_44 : decode cX6_every 44 = .ok (.iload_n 1, 1) := dk_27 (dk_at dksX6_every_1 21 rfl rfl)
theorem dX6_every_45 : decode cX6_every 45 = .ok (.ireturn, 1) := dk_172 (dk_at dksX6_every_1 22 rfl rfl)
abbrev cX6_atom : ByteArray := prog_19_method_45_code
def yX6_atom : MethodName := ⟨RX6, "atom", "()Z"⟩
def dkwX6_atom_6 : List UInt8 := [180, 0, 179, 4, 100, 181, 0, 179, 29, 172]
abbrev dktX6_atom_6 : List UInt8 := dkwX6_atom_6 ++ []
def dkwX6_atom_5 : List UInt8 := [154, 0, 11, 42, 42, 180, 0, 87, 182, 0, 113, 42, 89, 180, 0, 87, 4, 96, 181, 0, 87, 42, 89]
abbrev dktX6_atom_5 : List UInt8 := dkwX6_atom_5 ++ dktX6_atom_6
def dkwX6_atom_4 : List UInt8 := [4, 96, 181, 0, 87, 42, 182, 0, 242, 62, 42, 180, 0, 25, 2, 160, 0, 20, 42, 16, 41, 182, 0, 188]
abbrev dktX6_atom_4 : List UInt8 := dkwX6_atom_4 ++ dktX6_atom_5
def dkwX6_atom_3 : List UInt8 := [153, 0, 19, 42, 182, 0, 239, 154, 0, 7, 4, 167, 0, 4, 3, 62, 167, 0, 53, 42, 89, 180, 0, 87]
abbrev dktX6_atom_3 : List UInt8 := dkwX6_atom_3 ++ dktX6_atom_4
def dkwX6_atom_2 : List UInt8 := [160, 0, 10, 42, 27, 182, 0, 113, 3, 172, 42, 89, 180, 0, 179, 4, 96, 181, 0, 179, 3, 62, 28]
abbrev dktX6_atom_2 : List UInt8 := dkwX6_atom_2 ++ dktX6_atom_3
def dkwX6_atom_1 : List UInt8 := [154, 0, 17, 42, 16, 40, 182, 0, 188, 154, 0, 8, 42, 182, 0, 235, 172, 42, 180, 0, 179, 16, 6]
abbrev dktX6_atom_1 : List UInt8 := dkwX6_atom_1 ++ dktX6_atom_2
def dkwX6_atom_0 : List UInt8 := [42, 180, 0, 25, 2, 159, 0, 5, 3, 172, 42, 182, 0, 110, 60, 42, 18, 233, 182, 0, 117, 61, 28]
abbrev dktX6_atom_0 : List UInt8 := dkwX6_atom_0 ++ dktX6_atom_1
theorem dksX6_atom_0 : cX6_atom.data.toList.drop 0 = dktX6_atom_0 := by decide +kernel
theorem dksX6_atom_1 : cX6_atom.data.toList.drop 23 = dktX6_atom_1 := dk_seg dksX6_atom_0 23 rfl rfl
theorem dksX6_atom_2 : cX6_atom.data.toList.drop 46 = dktX6_atom_2 := dk_seg dksX6_atom_1 23 rfl rfl
theorem dksX6_atom_3 : cX6_atom.data.toList.drop 69 = dktX6_atom_3 := dk_seg dksX6_atom_2 23 rfl rfl
theorem dksX6_atom_4 : cX6_atom.data.toList.drop 93 = dktX6_atom_4 := dk_seg dksX6_atom_3 24 rfl rfl
theorem dksX6_atom_5 : cX6_atom.data.toList.drop 117 = dktX6_atom_5 := dk_seg dksX6_atom_4 24 rfl rfl
theorem dksX6_atom_6 : cX6_atom.data.toList.drop 140 = dktX6_atom_6 := dk_seg dksX6_atom_5 23 rfl rfl
theorem dX6_atom_0 : decode cX6_atom 0 = .ok (.aload_n 0, 1) := dk_42 (dk_at dksX6_atom_0 0 rfl rfl)
theorem dX6_atom_1 : decode cX6_atom 1 = .ok (.getfield 25, 3) := dk_180 0 25 (dk_at dksX6_atom_0 1 rfl rfl)
theorem dX6_atom_4 : decode cX6_atom 4 = .ok (.iconst (-1), 1) := dk_2 (dk_at dksX6_atom_0 4 rfl rfl)
theorem dX6_atom_5 : decode cX6_atom 5 = .ok (.if_icmp .eq 5, 3) := dk_159 0 5 (dk_at dksX6_atom_0 5 rfl rfl)
theorem dX6_atom_8 : decode cX6_atom 8 = .ok (.iconst 0, 1) := dk_3 (dk_at dksX6_atom_0 8 rfl rfl)
theorem dX6_atom_9 : decode cX6_atom 9 = .ok (.ireturn, 1) := dk_172 (dk_at dksX6_atom_0 9 rfl rfl)
theorem dX6_atom_10 : decode cX6_atom 10 = .ok (.aload_n 0, 1) := dk_42 (dk_at dksX6_atom_0 10 rfl rfl)
theorem dX6_atom_11 : decode cX6_atom 11 = .ok (.invokevirtual 110, 3) := dk_182 0 110 (dk_at dksX6_atom_0 11 rfl rfl)
theorem dX6_atom_14 : decode cX6_atom 14 = .ok (.istore_n 1, 1) := dk_60 (dk_at dksX6_atom_0 14 rfl rfl)
theorem dX6_atom_15 : decode cX6_atom 15 = .ok (.aload_n 0, 1) := dk_42 (dk_at dksX6_atom_0 15 rfl rfl)
theorem dX6_atom_16 : decode cX6_atom 16 = .ok (.ldc 233, 2) := dk_18 233 (dk_at dksX6_atom_0 16 rfl rfl)
theorem dX6_atom_18 : decode cX6_atom 18 = .ok (.invokevirtual 117, 3) := dk_182 0 117 (dk_at dksX6_atom_0 18 rfl rfl)
theorem dX6_atom_21 : decode cX6_atom 21 = .ok (.istore_n 2, 1) := dk_61 (dk_at dksX6_atom_0 21 rfl rfl)
theorem dX6_atom_22 : decode cX6_atom 22 = .ok (.iload_n 2, 1) := dk_28 (dk_at dksX6_atom_0 22 rfl rfl)
theorem dX6_atom_23 : decode cX6_atom 23 = .ok (.ifCond .ne 17, 3) := dk_154 0 17 (dk_at dksX6_atom_1 0 rfl rfl)
theorem dX6_atom_26 : decode cX6_atom 26 = .ok (.aload_n 0, 1) := dk_42 (dk_at dksX6_atom_1 3 rfl rfl)
theorem dX6_atom_27 : decode cX6_atom 27 = .ok (.bipush 40, 2) := dk_16 40 (dk_at dksX6_atom_1 4 rfl rfl)
theorem dX6_atom_29 : decode cX6_atom 29 = .ok (.invokevirtual 188, 3) := dk_182 0 188 (dk_at dksX6_atom_1 6 rfl rfl)
theorem dX6_atom_32 : decode cX6_atom 32 = .ok (.ifCond .ne 8, 3) := dk_154 0 8 (dk_at dksX6_atom_1 9 rfl rfl)
theorem dX6_atom_35 : decode cX6_atom 35 = .ok (.aload_n 0, 1) := dk_42 (dk_at dksX6_atom_1 12 rfl rfl)
theorem dX6_atom_36 : decode cX6_atom 36 = .ok (.invokevirtual 235, 3) := dk_182 0 235 (dk_at dksX6_atom_1 13 rfl rfl)
theorem dX6_atom_39 : decode cX6_atom 39 = .ok (.ireturn, 1) := dk_172 (dk_at dksX6_atom_1 16 rfl rfl)
theorem dX6_atom_40 : decode cX6_atom 40 = .ok (.aload_n 0, 1) := dk_42 (dk_at dksX6_atom_1 17 rfl rfl)
theorem dX6_atom_41 : decode cX6_atom 41 = .ok (.getfield 179, 3) := dk_180 0 179 (dk_at dksX6_atom_1 18 rfl rfl)
theorem dX6_atom_44 : decode cX6_atom 44 = .ok (.bipush 6, 2) := dk_16 6 (dk_at dksX6_atom_1 21 rfl rfl)
theorem dX6_atom_46 : decode cX6_atom 46 = .ok (.if_icmp .ne 10, 3) := dk_160 0 10 (dk_at dksX6_atom_2 0 rfl rfl)
theorem dX6_atom_49 : decode cX6_atom 49 = .ok (.aload_n 0, 1) := dk_42 (dk_at dksX6_atom_2 3 rfl rfl)
theorem dX6_atom_50 : decode cX6_atom 50 = .ok (.iload_n 1, 1) := dk_27 (dk_at dksX6_atom_2 4 rfl rfl)
theorem dX6_atom_51 : decode cX6_atom 51 = .ok (.invokevirtual 113, 3) := dk_182 0 113 (dk_at dksX6_atom_2 5 rfl rfl)
theorem dX6_atom_54 : decode cX6_atom 54 = .ok (.iconst 0, 1) := dk_3 (dk_at dksX6_atom_2 8 rfl rfl)
theorem dX6_atom_55 : decode cX6_atom 55 = .ok (.ireturn, 1) := dk_172 (dk_at dksX6_atom_2 9 rfl rfl)
theorem dX6_atom_56 : decode cX6_atom 56 = .ok (.aload_n 0, 1) := dk_42 (dk_at dksX6_atom_2 10 rfl rfl)
theorem dX6_atom_57 : decode cX6_atom 57 = .ok (.dup, 1) := dk_89 (dk_at dksX6_atom_2 11 rfl rfl)
theorem dX6_atom_58 : decode cX6_atom 58 = .ok (.getfield 179, 3) := dk_180 0 179 (dk_at dksX6_atom_2 12 rfl rfl)
theorem dX6_atom_61 : decode cX6_atom 61 = .ok (.iconst 1, 1) := dk_4 (dk_at dksX6_atom_2 15 rfl rfl)
theorem dX6_atom_62 : decode cX6_atom 62 = .ok (.iadd, 1) := dk_96 (dk_at dksX6_atom_2 16 rfl rfl)
theorem dX6_atom_63 : decode cX6_atom 63 = .ok (.putfield 179, 3) := dk_181 0 179 (dk_at dksX6_atom_2 17 rfl rfl)
theorem dX6_atom_66 : decode cX6_atom 66 = .ok (.iconst 0, 1) := dk_3 (dk_at dksX6_atom_2 20 rfl rfl)
theorem dX6_atom_67 : decode cX6_atom 67 = .ok (.istore_n 3, 1) := dk_62 (dk_at dksX6_atom_2 21 rfl rfl)
theorem dX6_atom_68 : decode cX6_atom 68 = .ok (.iload_n 2, 1) := dk_28 (dk_at dksX6_atom_2 22 rfl rfl)
theorem dX6_atom_69 : decode cX6_atom 69 = .ok (.ifCond .eq 19, 3) := dk_153 0 19 (dk_at dksX6_atom_3 0 rfl rfl)
theorem dX6_atom_72 : decode cX6_atom 72 = .ok (.aload_n 0, 1) := dk_42 (dk_at dksX6_atom_3 3 rfl rfl)
theorem dX6_atom_73 : decode cX6_atom 73 = .ok (.invokevirtual 239, 3) := dk_182 0 239 (dk_at dksX6_atom_3 4 rfl rfl)
theorem dX6_atom_76 : decode cX6_atom 76 = .ok (.ifCond .ne 7, 3) := dk_154 0 7 (dk_at dksX6_atom_3 7 rfl rfl)
theorem dX6_atom_79 : decode cX6_atom 79 = .ok (.iconst 1, 1) := dk_4 (dk_at dksX6_atom_3 10 rfl rfl)
theorem dX6_atom_80 : decode cX6_atom 80 = .ok (.goto 4, 3) := dk_167 0 4 (dk_at dksX6_atom_3 11 rfl rfl)
theorem dX6_atom_83 : decode cX6_atom 83 = .ok (.iconst 0, 1) := dk_3 (dk_at dksX6_atom_3 14 rfl rfl)
theorem dX6_atom_84 : decode cX6_atom 84 = .ok (.istore_n 3, 1) := dk_62 (dk_at dksX6_atom_3 15 rfl rfl)
theorem dX6_atom_85 : decode cX6_atom 85 = .ok (.goto 53, 3) := dk_167 0 53 (dk_at dksX6_atom_3 16 rfl rfl)
theorem dX6_atom_88 : decode cX6_atom 88 = .ok (.aload_n 0, 1) := dk_42 (dk_at dksX6_atom_3 19 rfl rfl)
theorem dX6_atom_89 : decode cX6_atom 89 = .ok (.dup, 1) := dk_89 (dk_at dksX6_atom_3 20 rfl rfl)
theorem dX6_atom_90 : decode cX6_atom 90 = .ok (.getfield 87, 3) := dk_180 0 87 (dk_at dksX6_atom_3 21 rfl rfl)
theorem dX6_atom_93 : decode cX6_atom 93 = .ok (.iconst 1, 1) := dk_4 (dk_at dksX6_atom_4 0 rfl rfl)
theorem dX6_atom_94 : decode cX6_atom 94 = .ok (.iadd, 1) := dk_96 (dk_at dksX6_atom_4 1 rfl rfl)
theorem dX6_atom_95 : decode cX6_atom 95 = .ok (.putfield 87, 3) := dk_181 0 87 (dk_at dksX6_atom_4 2 rfl rfl)
theorem dX6_atom_98 : decode cX6_atom 98 = .ok (.aload_n 0, 1) := dk_42 (dk_at dksX6_atom_4 5 rfl rfl)
theorem dX6_atom_99 : decode cX6_atom 99 = .ok (.invokevirtual 242, 3) := dk_182 0 242 (dk_at dksX6_atom_4 6 rfl rfl)
theorem dX6_atom_102 : decode cX6_atom 102 = .ok (.istore_n 3, 1) := dk_62 (dk_at dksX6_atom_4 9 rfl rfl)
theorem dX6_atom_103 : decode cX6_atom 103 = .ok (.aload_n 0, 1) := dk_42 (dk_at dksX6_atom_4 10 rfl rfl)
theorem dX6_atom_104 : decode cX6_atom 104 = .ok (.getfield 25, 3) := dk_180 0 25 (dk_at dksX6_atom_4 11 rfl rfl)
theorem dX6_atom_107 : decode cX6_atom 107 = .ok (.iconst (-1), 1) := dk_2 (dk_at dksX6_atom_4 14 rfl rfl)
theorem dX6_atom_108 : decode cX6_atom 108 = .ok (.if_icmp .ne 20, 3) := dk_160 0 20 (dk_at dksX6_atom_4 15 rfl rfl)
theorem dX6_atom_111 : decode cX6_atom 111 = .ok (.aload_n 0, 1) := dk_42 (dk_at dksX6_atom_4 18 rfl rfl)
theorem dX6_atom_112 : decode cX6_atom 112 = .ok (.bipush 41, 2) := dk_16 41 (dk_at dksX6_atom_4 19 rfl rfl)
theorem dX6_atom_114 : decode cX6_atom 114 = .ok (.invokevirtual 188, 3) := dk_182 0 188 (dk_at dksX6_atom_4 21 rfl rfl)
theorem dX6_atom_117 : decode cX6_atom 117 = .ok (.ifCond .ne 11, 3) := dk_154 0 11 (dk_at dksX6_atom_5 0 rfl rfl)
theorem dX6_atom_120 : decode cX6_atom 120 = .ok (.aload_n 0, 1) := dk_42 (dk_at dksX6_atom_5 3 rfl rfl)
theorem dX6_atom_121 : decode cX6_atom 121 = .ok (.aload_n 0, 1) := dk_42 (dk_at dksX6_atom_5 4 rfl rfl)
theorem dX6_atom_122 : decode cX6_atom 122 = .ok (.getfield 87, 3) := dk_180 0 87 (dk_at dksX6_atom_5 5 rfl rfl)
theorem dX6_atom_125 : decode cX6_atom 125 = .ok (.invokevirtual 113, 3) := dk_182 0 113 (dk_at dksX6_atom_5 8 rfl rfl)
theorem dX6_atom_128 : decode cX6_atom 128 = .ok (.aload_n 0, 1) := dk_42 (dk_at dksX6_atom_5 11 rfl rfl)
theorem dX6_atom_129 : decode cX6_atom 129 = .ok (.dup, 1) := dk_89 (dk_at dksX6_atom_5 12 rfl rfl)
theorem dX6_atom_130 : decode cX6_atom 130 = .ok (.getfield 87, 3) := dk_180 0 87 (dk_at dksX6_atom_5 13 rfl rfl)
theorem dX6_atom_133 : decode cX6_atom 133 = .ok (.iconst 1, 1) := dk_4 (dk_at dksX6_atom_5 16 rfl rfl)
theorem dX6_atom_134 : decode cX6_atom 134 = .ok (.iadd, 1) := dk_96 (dk_at dksX6_atom_5 17 rfl rfl)
theorem dX6_atom_135 : decode cX6_atom 135 = .ok (.putfield 87, 3) := dk_181 0 87 (dk_at dksX6_atom_5 18 rfl rfl)
theorem dX6_atom_138 : decode cX6_atom 138 = .ok (.aload_n 0, 1) := dk_42 (dk_at dksX6_atom_5 21 rfl rfl)
theorem dX6_atom_139 : decode cX6_atom 139 = .ok (.dup, 1) := dk_89 (dk_at dksX6_atom_5 22 rfl rfl)
theorem dX6_atom_140 : decode cX6_atom 140 = .ok (.getfield 179, 3) := dk_180 0 179 (dk_at dksX6_atom_6 0 rfl rfl)
theorem dX6_atom_143 : decode cX6_atom 143 = .ok (.iconst 1, 1) := dk_4 (dk_at dksX6_atom_6 3 rfl rfl)
theorem dX6_atom_144 : decode cX6_atom 144 = .ok (.isub, 1) := dk_100 (dk_at dksX6_atom_6 4 rfl rfl)
theorem dX6_atom_145 : decode cX6_atom 145 = .ok (.putfield 179, 3) := dk_181 0 179 (dk_at dksX6_atom_6 5 rfl rfl)
theorem dX6_atom_148 : decode cX6_atom 148 = .ok (.iload_n 3, 1) := dk_29 (dk_at dksX6_atom_6 8 rfl rfl)
theorem dX6_atom_149 : decode cX6_atom 149 = .ok (.ireturn, 1) := dk_172 (dk_at dksX6_atom_6 9 rfl rfl)
abbrev cX6_isSign : ByteArray := prog_19_method_24_code
def yX6_isSign : MethodName := ⟨RX6, "isSign", "(I)Z"⟩
def dkwX6_isSign_1 : List UInt8 := [160, 0, 7, 4, 167, 0, 4, 3, 172]
abbrev dktX6_isSign_1 : List UInt8 := dkwX6_isSign_1 ++ []
def dkwX6_isSign_0 : List UInt8 := [42, 182, 0, 97, 42, 180, 0, 87, 42, 180, 0, 90, 162, 0, 19, 42, 42, 180, 0, 87, 182, 0, 93, 27]
abbrev dktX6_isSign_0 : List UInt8 := dkwX6_isSign_0 ++ dktX6_isSign_1
theorem dksX6_isSign_0 : cX6_isSign.data.toList.drop 0 = dktX6_isSign_0 := by decide +kernel
theorem dksX6_isSign_1 : cX6_isSign.data.toList.drop 24 = dktX6_isSign_1 := dk_seg dksX6_isSign_0 24 rfl rfl
theorem dX6_isSign_0 : decode cX6_isSign 0 = .ok (.aload_n 0, 1) := dk_42 (dk_at dksX6_isSign_0 0 rfl rfl)
theorem dX6_isSign_1 : decode cX6_isSign 1 = .ok (.invokevirtual 97, 3) := dk_182 0 97 (dk_at dksX6_isSign_0 1 rfl rfl)
theorem dX6_isSign_4 : decode cX6_isSign 4 = .ok (.aload_n 0, 1) := dk_42 (dk_at dksX6_isSign_0 4 rfl rfl)
theorem dX6_isSign_5 : decode cX6_isSign 5 = .ok (.getfield 87, 3) := dk_180 0 87 (dk_at dksX6_isSign_0 5 rfl rfl)
theorem dX6_isSign_8 : decode cX6_isSign 8 = .ok (.aload_n 0, 1) := dk_42 (dk_at dksX6_isSign_0 8 rfl rfl)
theorem dX6_isSign_9 : decode cX6_isSign 9 = .ok (.getfield 90, 3) := dk_180 0 90 (dk_at dksX6_isSign_0 9 rfl rfl)
theorem dX6_isSign_12 : decode cX6_isSign 12 = .ok (.if_icmp .ge 19, 3) := dk_162 0 19 (dk_at dksX6_isSign_0 12 rfl rfl)
theorem dX6_isSign_15 : decode cX6_isSign 15 = .ok (.aload_n 0, 1) := dk_42 (dk_at dksX6_isSign_0 15 rfl rfl)
theorem dX6_isSign_16 : decode cX6_isSign 16 = .ok (.aload_n 0, 1) := dk_42 (dk_at dksX6_isSign_0 16 rfl rfl)
theorem dX6_isSign_17 : decode cX6_isSign 17 = .ok (.getfield 87, 3) := dk_180 0 87 (dk_at dksX6_isSign_0 17 rfl rfl)
theorem dX6_isSign_20 : decode cX6_isSign 20 = .ok (.invokevirtual 93, 3) := dk_182 0 93 (dk_at dksX6_isSign_0 20 rfl rfl)
theorem dX6_isSign_23 : decode cX6_isSign 23 = .ok (.iload_n 1, 1) := dk_27 (dk_at dksX6_isSign_0 23 rfl rfl)
theorem dX6_isSign_24 : decode cX6_isSign 24 = .ok (.if_icmp .ne 7, 3) := dk_160 0 7 (dk_at dksX6_isSign_1 0 rfl rfl)
theorem dX6_isSign_27 : decode cX6_isSign 27 = .ok (.iconst 1, 1) := dk_4 (dk_at dksX6_isSign_1 3 rfl rfl)
theorem dX6_isSign_28 : decode cX6_isSign 28 = .ok (.goto 4, 3) := dk_167 0 4 (dk_at dksX6_isSign_1 4 rfl rfl)
theorem dX6_isSign_31 : decode cX6_isSign 31 = .ok (.iconst 0, 1) := dk_3 (dk_at dksX6_isSign_1 7 rfl rfl)
theorem dX6_isSign_32 : decode cX6_isSign 32 = .ok (.ireturn, 1) := dk_172 (dk_at dksX6_isSign_1 8 rfl rfl)
abbrev cX6_plain : ByteArray := prog_19_method_44_code
def yX6_plain : MethodName := ⟨RX6, "plain", "()Z"⟩
def dkwX6_plain_4 : List UInt8 := [27, 29, 162, 0, 7, 4, 167, 0, 17, 3, 167, 0, 13, 27, 29, 164, 0, 7, 4, 167, 0, 4, 3, 172]
abbrev dktX6_plain_4 : List UInt8 := dkwX6_plain_4 ++ []
def dkwX6_plain_3 : List UInt8 := [182, 0, 113, 3, 172, 42, 89, 180, 0, 87, 4, 96, 181, 0, 87, 42, 182, 0, 230, 62, 28, 153, 0, 16]
abbrev dktX6_plain_3 : List UInt8 := dkwX6_plain_3 ++ dktX6_plain_4
def dkwX6_plain_2 : List UInt8 := [182, 0, 188, 61, 28, 154, 0, 22, 42, 16, 62, 182, 0, 188, 154, 0, 13, 42, 42, 180, 0, 87]
abbrev dktX6_plain_2 : List UInt8 := dkwX6_plain_2 ++ dktX6_plain_3
def dkwX6_plain_1 : List UInt8 := [180, 0, 227, 172, 42, 182, 0, 230, 60, 42, 180, 0, 25, 2, 159, 0, 5, 3, 172, 42, 16, 60]
abbrev dktX6_plain_1 : List UInt8 := dkwX6_plain_1 ++ dktX6_plain_2
def dkwX6_plain_0 : List UInt8 := [42, 18, 219, 182, 0, 117, 153, 0, 8, 42, 180, 0, 221, 172, 42, 18, 225, 182, 0, 117, 153, 0, 8, 42]
abbrev dktX6_plain_0 : List UInt8 := dkwX6_plain_0 ++ dktX6_plain_1
theorem dksX6_plain_0 : cX6_plain.data.toList.drop 0 = dktX6_plain_0 := by decide +kernel
theorem dksX6_plain_1 : cX6_plain.data.toList.drop 24 = dktX6_plain_1 := dk_seg dksX6_plain_0 24 rfl rfl
theorem dksX6_plain_2 : cX6_plain.data.toList.drop 46 = dktX6_plain_2 := dk_seg dksX6_plain_1 22 rfl rfl
theorem dksX6_plain_3 : cX6_plain.data.toList.drop 68 = dktX6_plain_3 := dk_seg dksX6_plain_2 22 rfl rfl
theorem dksX6_plain_4 : cX6_plain.data.toList.drop 92 = dktX6_plain_4 := dk_seg dksX6_plain_3 24 rfl rfl
theorem dX6_plain_0 : decode cX6_plain 0 = .ok (.aload_n 0, 1) := dk_42 (dk_at dksX6_plain_0 0 rfl rfl)
theorem dX6_plain_1 : decode cX6_plain 1 = .ok (.ldc 219, 2) := dk_18 219 (dk_at dksX6_plain_0 1 rfl rfl)
theorem dX6_plain_3 : decode cX6_plain 3 = .ok (.invokevirtual 117, 3) := dk_182 0 117 (dk_at dksX6_plain_0 3 rfl rfl)
theorem dX6_plain_6 : decode cX6_plain 6 = .ok (.ifCond .eq 8, 3) := dk_153 0 8 (dk_at dksX6_plain_0 6 rfl rfl)
theorem dX6_plain_9 : decode cX6_plain 9 = .ok (.aload_n 0, 1) := dk_42 (dk_at dksX6_plain_0 9 rfl rfl)
theorem dX6_plain_10 : decode cX6_plain 10 = .ok (.getfield 221, 3) := dk_180 0 221 (dk_at dksX6_plain_0 10 rfl rfl)
theorem dX6_plain_13 : decode cX6_plain 13 = .ok (.ireturn, 1) := dk_172 (dk_at dksX6_plain_0 13 rfl rfl)
theorem dX6_plain_14 : decode cX6_plain 14 = .ok (.aload_n 0, 1) := dk_42 (dk_at dksX6_plain_0 14 rfl rfl)
theorem dX6_plain_15 : decode cX6_plain 15 = .ok (.ldc 225, 2) := dk_18 225 (dk_at dksX6_plain_0 15 rfl rfl)
theorem dX6_plain_17 : decode cX6_plain 17 = .ok (.invokevirtual 117, 3) := dk_182 0 117 (dk_at dksX6_plain_0 17 rfl rfl)
theorem dX6_plain_20 : decode cX6_plain 20 = .ok (.ifCond .eq 8, 3) := dk_153 0 8 (dk_at dksX6_plain_0 20 rfl rfl)
theorem dX6_plain_23 : decode cX6_plain 23 = .ok (.aload_n 0, 1) := dk_42 (dk_at dksX6_plain_0 23 rfl rfl)
theorem dX6_plain_24 : decode cX6_plain 24 = .ok (.getfield 227, 3) := dk_180 0 227 (dk_at dksX6_plain_1 0 rfl rfl)
theorem dX6_plain_27 : decode cX6_plain 27 = .ok (.ireturn, 1) := dk_172 (dk_at dksX6_plain_1 3 rfl rfl)
theorem dX6_plain_28 : decode cX6_plain 28 = .ok (.aload_n 0, 1) := dk_42 (dk_at dksX6_plain_1 4 rfl rfl)
theorem dX6_plain_29 : decode cX6_plain 29 = .ok (.invokevirtual 230, 3) := dk_182 0 230 (dk_at dksX6_plain_1 5 rfl rfl)
theorem dX6_plain_32 : decode cX6_plain 32 = .ok (.istore_n 1, 1) := dk_60 (dk_at dksX6_plain_1 8 rfl rfl)
theorem dX6_plain_33 : decode cX6_plain 33 = .ok (.aload_n 0, 1) := dk_42 (dk_at dksX6_plain_1 9 rfl rfl)
theorem dX6_plain_34 : decode cX6_plain 34 = .ok (.getfield 25, 3) := dk_180 0 25 (dk_at dksX6_plain_1 10 rfl rfl)
theorem dX6_plain_37 : decode cX6_plain 37 = .ok (.iconst (-1), 1) := dk_2 (dk_at dksX6_plain_1 13 rfl rfl)
theorem dX6_plain_38 : decode cX6_plain 38 = .ok (.if_icmp .eq 5, 3) := dk_159 0 5 (dk_at dksX6_plain_1 14 rfl rfl)
theorem dX6_plain_41 : decode cX6_plain 41 = .ok (.iconst 0, 1) := dk_3 (dk_at dksX6_plain_1 17 rfl rfl)
theorem dX6_plain_42 : decode cX6_plain 42 = .ok (.ireturn, 1) := dk_172 (dk_at dksX6_plain_1 18 rfl rfl)
theorem dX6_plain_43 : decode cX6_plain 43 = .ok (.aload_n 0, 1) := dk_42 (dk_at dksX6_plain_1 19 rfl rfl)
theorem dX6_plain_44 : decode cX6_plain 44 = .ok (.bipush 60, 2) := dk_16 60 (dk_at dksX6_plain_1 20 rfl rfl)
theorem dX6_plain_46 : decode cX6_plain 46 = .ok (.invokevirtual 188, 3) := dk_182 0 188 (dk_at dksX6_plain_2 0 rfl rfl)
theorem dX6_plain_49 : decode cX6_plain 49 = .ok (.istore_n 2, 1) := dk_61 (dk_at dksX6_plain_2 3 rfl rfl)
theorem dX6_plain_50 : decode cX6_plain 50 = .ok (.iload_n 2, 1) := dk_28 (dk_at dksX6_plain_2 4 rfl rfl)
theorem dX6_plain_51 : decode cX6_plain 51 = .ok (.ifCond .ne 22, 3) := dk_154 0 22 (dk_at dksX6_plain_2 5 rfl rfl)
theorem dX6_plain_54 : decode cX6_plain 54 = .ok (.aload_n 0, 1) := dk_42 (dk_at dksX6_plain_2 8 rfl rfl)
theorem dX6_plain_55 : decode cX6_plain 55 = .ok (.bipush 62, 2) := dk_16 62 (dk_at dksX6_plain_2 9 rfl rfl)
theorem dX6_plain_57 : decode cX6_plain 57 = .ok (.invokevirtual 188, 3) := dk_182 0 188 (dk_at dksX6_plain_2 11 rfl rfl)
theorem dX6_plain_60 : decode cX6_plain 60 = .ok (.ifCond .ne 13, 3) := dk_154 0 13 (dk_at dksX6_plain_2 14 rfl rfl)
theorem dX6_plain_63 : decode cX6_plain 63 = .ok (.aload_n 0, 1) := dk_42 (dk_at dksX6_plain_2 17 rfl rfl)
theorem dX6_plain_64 : decode cX6_plain 64 = .ok (.aload_n 0, 1) := dk_42 (dk_at dksX6_plain_2 18 rfl rfl)
theorem dX6_plain_65 : decode cX6_plain 65 = .ok (.getfield 87, 3) := dk_180 0 87 (dk_at dksX6_plain_2 19 rfl rfl)
theorem dX6_plain_68 : decode cX6_plain 68 = .ok (.invokevirtual 113, 3) := dk_182 0 113 (dk_at dksX6_plain_3 0 rfl rfl)
theorem dX6_plain_71 : decode cX6_plain 71 = .ok (.iconst 0, 1) := dk_3 (dk_at dksX6_plain_3 3 rfl rfl)
theorem dX6_plain_72 : decode cX6_plain 72 = .ok (.ireturn, 1) := dk_172 (dk_at dksX6_plain_3 4 rfl rfl)
theorem dX6_plain_73 : decode cX6_plain 73 = .ok (.aload_n 0, 1) := dk_42 (dk_at dksX6_plain_3 5 rfl rfl)
theorem dX6_plain_74 : decode cX6_plain 74 = .ok (.dup, 1) := dk_89 (dk_at dksX6_plain_3 6 rfl rfl)
theorem dX6_plain_75 : decode cX6_plain 75 = .ok (.getfield 87, 3) := dk_180 0 87 (dk_at dksX6_plain_3 7 rfl rfl)
theorem dX6_plain_78 : decode cX6_plain 78 = .ok (.iconst 1, 1) := dk_4 (dk_at dksX6_plain_3 10 rfl rfl)
theorem dX6_plain_79 : decode cX6_plain 79 = .ok (.iadd, 1) := dk_96 (dk_at dksX6_plain_3 11 rfl rfl)
theorem dX6_plain_80 : decode cX6_plain 80 = .ok (.putfield 87, 3) := dk_181 0 87 (dk_at dksX6_plain_3 12 rfl rfl)
theorem dX6_plain_83 : decode cX6_plain 83 = .ok (.aload_n 0, 1) := dk_42 (dk_at dksX6_plain_3 15 rfl rfl)
theorem dX6_plain_84 : decode cX6_plain 84 = .ok (.invokevirtual 230, 3) := dk_182 0 230 (dk_at dksX6_plain_3 16 rfl rfl)
theorem dX6_plain_87 : decode cX6_plain 87 = .ok (.istore_n 3, 1) := dk_62 (dk_at dksX6_plain_3 19 rfl rfl)
theorem dX6_plain_88 : decode cX6_plain 88 = .ok (.iload_n 2, 1) := dk_28 (dk_at dksX6_plain_3 20 rfl rfl)
theorem dX6_plain_89 : decode cX6_plain 89 = .ok (.ifCond .eq 16, 3) := dk_153 0 16 (dk_at dksX6_plain_3 21 rfl rfl)
theorem dX6_plain_92 : decode cX6_plain 92 = .ok (.iload_n 1, 1) := dk_27 (dk_at dksX6_plain_4 0 rfl rfl)
theorem dX6_plain_93 : decode cX6_plain 93 = .ok (.iload_n 3, 1) := dk_29 (dk_at dksX6_plain_4 1 rfl rfl)
theorem dX6_plain_94 : decode cX6_plain 94 = .ok (.if_icmp .ge 7, 3) := dk_162 0 7 (dk_at dksX6_plain_4 2 rfl rfl)
theorem dX6_plain_97 : decode cX6_plain 97 = .ok (.iconst 1, 1) := dk_4 (dk_at dksX6_plain_4 5 rfl rfl)
theorem dX6_plain_98 : decode cX6_plain 98 = .ok (.goto 17, 3) := dk_167 0 17 (dk_at dksX6_plain_4 6 rfl rfl)
theorem dX6_plain_101 : decode cX6_plain 101 = .ok (.iconst 0, 1) := dk_3 (dk_at dksX6_plain_4 9 rfl rfl)
theorem dX6_plain_102 : decode cX6_plain 102 = .ok (.goto 13, 3) := dk_167 0 13 (dk_at dksX6_plain_4 10 rfl rfl)
theorem dX6_plain_105 : decode cX6_plain 105 = .ok (.iload_n 1, 1) := dk_27 (dk_at dksX6_plain_4 13 rfl rfl)
theorem dX6_plain_106 : decode cX6_plain 106 = .ok (.iload_n 3, 1) := dk_29 (dk_at dksX6_plain_4 14 rfl rfl)
theorem dX6_plain_107 : decode cX6_plain 107 = .ok (.if_icmp .le 7, 3) := dk_164 0 7 (dk_at dksX6_plain_4 15 rfl rfl)
theorem dX6_plain_110 : decode cX6_plain 110 = .ok (.iconst 1, 1) := dk_4 (dk_at dksX6_plain_4 18 rfl rfl)
theorem dX6_plain_111 : decode cX6_plain 111 = .ok (.goto 4, 3) := dk_167 0 4 (dk_at dksX6_plain_4 19 rfl rfl)
theorem dX6_plain_114 : decode cX6_plain 114 = .ok (.iconst 0, 1) := dk_3 (dk_at dksX6_plain_4 22 rfl rfl)
theorem dX6_plain_115 : decode cX6_plain 115 = .ok (.ireturn, 1) := dk_172 (dk_at dksX6_plain_4 23 rfl rfl)
abbrev cX6_sum : ByteArray := prog_19_method_43_code
def yX6_sum : MethodName := ⟨RX6, "sum", "()I"⟩
def dkwX6_sum_1 : List UInt8 := [180, 0, 87, 4, 96, 181, 0, 87, 27, 42, 182, 0, 216, 96, 60, 167, 255, 222, 27, 172]
abbrev dktX6_sum_1 : List UInt8 := dkwX6_sum_1 ++ []
def dkwX6_sum_0 : List UInt8 := [42, 182, 0, 216, 60, 42, 180, 0, 25, 2, 160, 0, 32, 42, 16, 43, 182, 0, 188, 153, 0, 23, 42, 89]
abbrev dktX6_sum_0 : List UInt8 := dkwX6_sum_0 ++ dktX6_sum_1
theorem dksX6_sum_0 : cX6_sum.data.toList.drop 0 = dktX6_sum_0 := by decide +kernel
theorem dksX6_sum_1 : cX6_sum.data.toList.drop 24 = dktX6_sum_1 := dk_seg dksX6_sum_0 24 rfl rfl
theorem dX6_sum_0 : decode cX6_sum 0 = .ok (.aload_n 0, 1) := dk_42 (dk_at dksX6_sum_0 0 rfl rfl)
theorem dX6_sum_1 : decode cX6_sum 1 = .ok (.invokevirtual 216, 3) := dk_182 0 216 (dk_at dksX6_sum_0 1 rfl rfl)
theorem dX6_sum_4 : decode cX6_sum 4 = .ok (.istore_n 1, 1) := dk_60 (dk_at dksX6_sum_0 4 rfl rfl)
theorem dX6_sum_5 : decode cX6_sum 5 = .ok (.aload_n 0, 1) := dk_42 (dk_at dksX6_sum_0 5 rfl rfl)
theorem dX6_sum_6 : decode cX6_sum 6 = .ok (.getfield 25, 3) := dk_180 0 25 (dk_at dksX6_sum_0 6 rfl rfl)
theorem dX6_sum_9 : decode cX6_sum 9 = .ok (.iconst (-1), 1) := dk_2 (dk_at dksX6_sum_0 9 rfl rfl)
theorem dX6_sum_10 : decode cX6_sum 10 = .ok (.if_icmp .ne 32, 3) := dk_160 0 32 (dk_at dksX6_sum_0 10 rfl rfl)
theorem dX6_sum_13 : decode cX6_sum 13 = .ok (.aload_n 0, 1) := dk_42 (dk_at dksX6_sum_0 13 rfl rfl)
theorem dX6_sum_14 : decode cX6_sum 14 = .ok (.bipush 43, 2) := dk_16 43 (dk_at dksX6_sum_0 14 rfl rfl)
theorem dX6_sum_16 : decode cX6_sum 16 = .ok (.invokevirtual 188, 3) := dk_182 0 188 (dk_at dksX6_sum_0 16 rfl rfl)
theorem dX6_sum_19 : decode cX6_sum 19 = .ok (.ifCond .eq 23, 3) := dk_153 0 23 (dk_at dksX6_sum_0 19 rfl rfl)
theorem dX6_sum_22 : decode cX6_sum 22 = .ok (.aload_n 0, 1) := dk_42 (dk_at dksX6_sum_0 22 rfl rfl)
theorem dX6_sum_23 : decode cX6_sum 23 = .ok (.dup, 1) := dk_89 (dk_at dksX6_sum_0 23 rfl rfl)
theorem dX6_sum_24 : decode cX6_sum 24 = .ok (.getfield 87, 3) := dk_180 0 87 (dk_at dksX6_sum_1 0 rfl rfl)
theorem dX6_sum_27 : decode cX6_sum 27 = .ok (.iconst 1, 1) := dk_4 (dk_at dksX6_sum_1 3 rfl rfl)
theorem dX6_sum_28 : decode cX6_sum 28 = .ok (.iadd, 1) := dk_96 (dk_at dksX6_sum_1 4 rfl rfl)
theorem dX6_sum_29 : decode cX6_sum 29 = .ok (.putfield 87, 3) := dk_181 0 87 (dk_at dksX6_sum_1 5 rfl rfl)
theorem dX6_sum_32 : decode cX6_sum 32 = .ok (.iload_n 1, 1) := dk_27 (dk_at dksX6_sum_1 8 rfl rfl)
theorem dX6_sum_33 : decode cX6_sum 33 = .ok (.aload_n 0, 1) := dk_42 (dk_at dksX6_sum_1 9 rfl rfl)
theorem dX6_sum_34 : decode cX6_sum 34 = .ok (.invokevirtual 216, 3) := dk_182 0 216 (dk_at dksX6_sum_1 10 rfl rfl)
theorem dX6_sum_37 : decode cX6_sum 37 = .ok (.iadd, 1) := dk_96 (dk_at dksX6_sum_1 13 rfl rfl)
theorem dX6_sum_38 : decode cX6_sum 38 = .ok (.istore_n 1, 1) := dk_60 (dk_at dksX6_sum_1 14 rfl rfl)
theorem dX6_sum_39 : decode cX6_sum 39 = .ok (.goto (-34), 3) := dk_167 255 222 (dk_at dksX6_sum_1 15 rfl rfl)
theorem dX6_sum_42 : decode cX6_sum 42 = .ok (.iload_n 1, 1) := dk_27 (dk_at dksX6_sum_1 18 rfl rfl)
theorem dX6_sum_43 : decode cX6_sum 43 = .ok (.ireturn, 1) := dk_172 (dk_at dksX6_sum_1 19 rfl rfl)
abbrev cX6_part : ByteArray := prog_19_method_42_code
def yX6_part : MethodName := ⟨RX6, "part", "()I"⟩
def dkwX6_part_7 : List UInt8 := [172, 42, 180, 0, 29, 27, 46, 172]
abbrev dktX6_part_7 : List UInt8 := dkwX6_part_7 ++ []
def dkwX6_part_6 : List UInt8 := [153, 0, 8, 16, 6, 167, 0, 4, 2, 60, 27, 2, 160, 0, 13, 42, 42, 180, 0, 87, 182, 0, 113, 3]
abbrev dktX6_part_6 : List UInt8 := dkwX6_part_6 ++ dktX6_part_7
def dkwX6_part_5 : List UInt8 := [167, 0, 31, 42, 18, 214, 182, 0, 117, 153, 0, 7, 8, 167, 0, 18, 42, 18, 173, 182, 0, 117]
abbrev dktX6_part_5 : List UInt8 := dkwX6_part_5 ++ dktX6_part_6
def dkwX6_part_4 : List UInt8 := [18, 210, 182, 0, 117, 153, 0, 7, 6, 167, 0, 44, 42, 18, 212, 182, 0, 117, 153, 0, 7, 7]
abbrev dktX6_part_4 : List UInt8 := dkwX6_part_4 ++ dktX6_part_5
def dkwX6_part_3 : List UInt8 := [182, 0, 117, 153, 0, 7, 4, 167, 0, 70, 42, 18, 208, 182, 0, 117, 153, 0, 7, 5, 167, 0, 57, 42]
abbrev dktX6_part_3 : List UInt8 := dkwX6_part_3 ++ dktX6_part_4
def dkwX6_part_2 : List UInt8 := [17, 3, 231, 182, 0, 121, 172, 42, 18, 151, 182, 0, 117, 153, 0, 7, 3, 167, 0, 83, 42, 18, 156]
abbrev dktX6_part_2 : List UInt8 := dkwX6_part_2 ++ dktX6_part_3
def dkwX6_part_1 : List UInt8 := [162, 0, 30, 42, 42, 180, 0, 87, 182, 0, 93, 16, 48, 16, 57, 184, 0, 57, 153, 0, 12, 42, 3]
abbrev dktX6_part_1 : List UInt8 := dkwX6_part_1 ++ dktX6_part_2
def dkwX6_part_0 : List UInt8 := [42, 180, 0, 25, 2, 159, 0, 5, 3, 172, 42, 182, 0, 97, 42, 180, 0, 87, 42, 180, 0, 90]
abbrev dktX6_part_0 : List UInt8 := dkwX6_part_0 ++ dktX6_part_1
theorem dksX6_part_0 : cX6_part.data.toList.drop 0 = dktX6_part_0 := by decide +kernel
theorem dksX6_part_1 : cX6_part.data.toList.drop 22 = dktX6_part_1 := dk_seg dksX6_part_0 22 rfl rfl
theorem dksX6_part_2 : cX6_part.data.toList.drop 45 = dktX6_part_2 := dk_seg dksX6_part_1 23 rfl rfl
theorem dksX6_part_3 : cX6_part.data.toList.drop 68 = dktX6_part_3 := dk_seg dksX6_part_2 23 rfl rfl
theorem dksX6_part_4 : cX6_part.data.toList.drop 92 = dktX6_part_4 := dk_seg dksX6_part_3 24 rfl rfl
theorem dksX6_part_5 : cX6_part.data.toList.drop 114 = dktX6_part_5 := dk_seg dksX6_part_4 22 rfl rfl
theorem dksX6_part_6 : cX6_part.data.toList.drop 136 = dktX6_part_6 := dk_seg dksX6_part_5 22 rfl rfl
theorem dksX6_part_7 : cX6_part.data.toList.drop 160 = dktX6_part_7 := dk_seg dksX6_part_6 24 rfl rfl
theorem dX6_part_0 : decode cX6_part 0 = .ok (.aload_n 0, 1) := dk_42 (dk_at dksX6_part_0 0 rfl rfl)
theorem dX6_part_1 : decode cX6_part 1 = .ok (.getfield 25, 3) := dk_180 0 25 (dk_at dksX6_part_0 1 rfl rfl)
theorem dX6_part_4 : decode cX6_part 4 = .ok (.iconst (-1), 1) := dk_2 (dk_at dksX6_part_0 4 rfl rfl)
theorem dX6_part_5 : decode cX6_part 5 = .ok (.if_icmp .eq 5, 3) := dk_159 0 5 (dk_at dksX6_part_0 5 rfl rfl)
theorem dX6_part_8 : decode cX6_part 8 = .ok (.iconst 0, 1) := dk_3 (dk_at dksX6_part_0 8 rfl rfl)
theorem dX6_part_9 : decode cX6_part 9 = .ok (.ireturn, 1) := dk_172 (dk_at dksX6_part_0 9 rfl rfl)
theorem dX6_part_10 : decode cX6_part 10 = .ok (.aload_n 0, 1) := dk_42 (dk_at dksX6_part_0 10 rfl rfl)
theorem dX6_part_11 : decode cX6_part 11 = .ok (.invokevirtual 97, 3) := dk_182 0 97 (dk_at dksX6_part_0 11 rfl rfl)
theorem dX6_part_14 : decode cX6_part 14 = .ok (.aload_n 0, 1) := dk_42 (dk_at dksX6_part_0 14 rfl rfl)
theorem dX6_part_15 : decode cX6_part 15 = .ok (.getfield 87, 3) := dk_180 0 87 (dk_at dksX6_part_0 15 rfl rfl)
theorem dX6_part_18 : decode cX6_part 18 = .ok (.aload_n 0, 1) := dk_42 (dk_at dksX6_part_0 18 rfl rfl)
theorem dX6_part_19 : decode cX6_part 19 = .ok (.getfield 90, 3) := dk_180 0 90 (dk_at dksX6_part_0 19 rfl rfl)
theorem dX6_part_22 : decode cX6_part 22 = .ok (.if_icmp .ge 30, 3) := dk_162 0 30 (dk_at dksX6_part_1 0 rfl rfl)
theorem dX6_part_25 : decode cX6_part 25 = .ok (.aload_n 0, 1) := dk_42 (dk_at dksX6_part_1 3 rfl rfl)
theorem dX6_part_26 : decode cX6_part 26 = .ok (.aload_n 0, 1) := dk_42 (dk_at dksX6_part_1 4 rfl rfl)
theorem dX6_part_27 : decode cX6_part 27 = .ok (.getfield 87, 3) := dk_180 0 87 (dk_at dksX6_part_1 5 rfl rfl)
theorem dX6_part_30 : decode cX6_part 30 = .ok (.invokevirtual 93, 3) := dk_182 0 93 (dk_at dksX6_part_1 8 rfl rfl)
theorem dX6_part_33 : decode cX6_part 33 = .ok (.bipush 48, 2) := dk_16 48 (dk_at dksX6_part_1 11 rfl rfl)
theorem dX6_part_35 : decode cX6_part 35 = .ok (.bipush 57, 2) := dk_16 57 (dk_at dksX6_part_1 13 rfl rfl)
theorem dX6_part_37 : decode cX6_part 37 = .ok (.invokestatic 57, 3) := dk_184 0 57 (dk_at dksX6_part_1 15 rfl rfl)
theorem dX6_part_40 : decode cX6_part 40 = .ok (.ifCond .eq 12, 3) := dk_153 0 12 (dk_at dksX6_part_1 18 rfl rfl)
theorem dX6_part_43 : decode cX6_part 43 = .ok (.aload_n 0, 1) := dk_42 (dk_at dksX6_part_1 21 rfl rfl)
theorem dX6_part_44 : decode cX6_part 44 = .ok (.iconst 0, 1) := dk_3 (dk_at dksX6_part_1 22 rfl rfl)
theorem dX6_part_45 : decode cX6_part 45 = .ok (.sipush 999, 3) := dk_17 3 231 (dk_at dksX6_part_2 0 rfl rfl)
theorem dX6_part_48 : decode cX6_part 48 = .ok (.invokevirtual 121, 3) := dk_182 0 121 (dk_at dksX6_part_2 3 rfl rfl)
theorem dX6_part_51 : decode cX6_part 51 = .ok (.ireturn, 1) := dk_172 (dk_at dksX6_part_2 6 rfl rfl)
theorem dX6_part_52 : decode cX6_part 52 = .ok (.aload_n 0, 1) := dk_42 (dk_at dksX6_part_2 7 rfl rfl)
theorem dX6_part_53 : decode cX6_part 53 = .ok (.ldc 151, 2) := dk_18 151 (dk_at dksX6_part_2 8 rfl rfl)
theorem dX6_part_55 : decode cX6_part 55 = .ok (.invokevirtual 117, 3) := dk_182 0 117 (dk_at dksX6_part_2 10 rfl rfl)
theorem dX6_part_58 : decode cX6_part 58 = .ok (.ifCond .eq 7, 3) := dk_153 0 7 (dk_at dksX6_part_2 13 rfl rfl)
theorem dX6_part_61 : decode cX6_part 61 = .ok (.iconst 0, 1) := dk_3 (dk_at dksX6_part_2 16 rfl rfl)
theorem dX6_part_62 : decode cX6_part 62 = .ok (.goto 83, 3) := dk_167 0 83 (dk_at dksX6_part_2 17 rfl rfl)
theorem dX6_part_65 : decode cX6_part 65 = .ok (.aload_n 0, 1) := dk_42 (dk_at dksX6_part_2 20 rfl rfl)
theorem dX6_part_66 : decode cX6_part 66 = .ok (.ldc 156, 2) := dk_18 156 (dk_at dksX6_part_2 21 rfl rfl)
theorem dX6_part_68 : decode cX6_part 68 = .ok (.invokevirtual 117, 3) := dk_182 0 117 (dk_at dksX6_part_3 0 rfl rfl)
theorem dX6_part_71 : decode cX6_part 71 = .ok (.ifCond .eq 7, 3) := dk_153 0 7 (dk_at dksX6_part_3 3 rfl rfl)
theorem dX6_part_74 : decode cX6_part 74 = .ok (.iconst 1, 1) := dk_4 (dk_at dksX6_part_3 6 rfl rfl)
theorem dX6_part_75 : decode cX6_part 75 = .ok (.goto 70, 3) := dk_167 0 70 (dk_at dksX6_part_3 7 rfl rfl)
theorem dX6_part_78 : decode cX6_part 78 = .ok (.aload_n 0, 1) := dk_42 (dk_at dksX6_part_3 10 rfl rfl)
theorem dX6_part_79 : decode cX6_part 79 = .ok (.ldc 208, 2) := dk_18 208 (dk_at dksX6_part_3 11 rfl rfl)
theorem dX6_part_81 : decode cX6_part 81 = .ok (.invokevirtual 117, 3) := dk_182 0 117 (dk_at dksX6_part_3 13 rfl rfl)
theorem dX6_part_84 : decode cX6_part 84 = .ok (.ifCond .eq 7, 3) := dk_153 0 7 (dk_at dksX6_part_3 16 rfl rfl)
theorem dX6_part_87 : decode cX6_part 87 = .ok (.iconst 2, 1) := dk_5 (dk_at dksX6_part_3 19 rfl rfl)
theorem dX6_part_88 : decode cX6_part 88 = .ok (.goto 57, 3) := dk_167 0 57 (dk_at dksX6_part_3 20 rfl rfl)
theorem dX6_part_91 : decode cX6_part 91 = .ok (.aload_n 0, 1) := dk_42 (dk_at dksX6_part_3 23 rfl rfl)
theorem dX6_part_92 : decode cX6_part 92 = .ok (.ldc 210, 2) := dk_18 210 (dk_at dksX6_part_4 0 rfl rfl)
theorem dX6_part_94 : decode cX6_part 94 = .ok (.invokevirtual 117, 3) := dk_182 0 117 (dk_at dksX6_part_4 2 rfl rfl)
theorem dX6_part_97 : decode cX6_part 97 = .ok (.ifCond .eq 7, 3) := dk_153 0 7 (dk_at dksX6_part_4 5 rfl rfl)
theorem dX6_part_100 : decode cX6_part 100 = .ok (.iconst 3, 1) := dk_6 (dk_at dksX6_part_4 8 rfl rfl)
theorem dX6_part_101 : decode cX6_part 101 = .ok (.goto 44, 3) := dk_167 0 44 (dk_at dksX6_part_4 9 rfl rfl)
theorem dX6_part_104 : decode cX6_part 104 = .ok (.aload_n 0, 1) := dk_42 (dk_at dksX6_part_4 12 rfl rfl)
theorem dX6_part_105 : decode cX6_part 105 = .ok (.ldc 212, 2) := dk_18 212 (dk_at dksX6_part_4 13 rfl rfl)
theorem dX6_part_107 : decode cX6_part 107 = .ok (.invokevirtual 117, 3) := dk_182 0 117 (dk_at dksX6_part_4 15 rfl rfl)
theorem dX6_part_110 : decode cX6_part 110 = .ok (.ifCond .eq 7, 3) := dk_153 0 7 (dk_at dksX6_part_4 18 rfl rfl)
theorem dX6_part_113 : decode cX6_part 113 = .ok (.iconst 4, 1) := dk_7 (dk_at dksX6_part_4 21 rfl rfl)
theorem dX6_part_114 : decode cX6_part 114 = .ok (.goto 31, 3) := dk_167 0 31 (dk_at dksX6_part_5 0 rfl rfl)
theorem dX6_part_117 : decode cX6_part 117 = .ok (.aload_n 0, 1) := dk_42 (dk_at dksX6_part_5 3 rfl rfl)
theorem dX6_part_118 : decode cX6_part 118 = .ok (.ldc 214, 2) := dk_18 214 (dk_at dksX6_part_5 4 rfl rfl)
theorem dX6_part_120 : decode cX6_part 120 = .ok (.invokevirtual 117, 3) := dk_182 0 117 (dk_at dksX6_part_5 6 rfl rfl)
theorem dX6_part_123 : decode cX6_part 123 = .ok (.ifCond .eq 7, 3) := dk_153 0 7 (dk_at dksX6_part_5 9 rfl rfl)
theorem dX6_part_126 : decode cX6_part 126 = .ok (.iconst 5, 1) := dk_8 (dk_at dksX6_part_5 12 rfl rfl)
theorem dX6_part_127 : decode cX6_part 127 = .ok (.goto 18, 3) := dk_167 0 18 (dk_at dksX6_part_5 13 rfl rfl)
theorem dX6_part_130 : decode cX6_part 130 = .ok (.aload_n 0, 1) := dk_42 (dk_at dksX6_part_5 16 rfl rfl)
theorem dX6_part_131 : decode cX6_part 131 = .ok (.ldc 173, 2) := dk_18 173 (dk_at dksX6_part_5 17 rfl rfl)
theorem dX6_part_133 : decode cX6_part 133 = .ok (.invokevirtual 117, 3) := dk_182 0 117 (dk_at dksX6_part_5 19 rfl rfl)
theorem dX6_part_136 : decode cX6_part 136 = .ok (.ifCond .eq 8, 3) := dk_153 0 8 (dk_at dksX6_part_6 0 rfl rfl)
theorem dX6_part_139 : decode cX6_part 139 = .ok (.bipush 6, 2) := dk_16 6 (dk_at dksX6_part_6 3 rfl rfl)
theorem dX6_part_141 : decode cX6_part 141 = .ok (.goto 4, 3) := dk_167 0 4 (dk_at dksX6_part_6 5 rfl rfl)
theorem dX6_part_144 : decode cX6_part 144 = .ok (.iconst (-1), 1) := dk_2 (dk_at dksX6_part_6 8 rfl rfl)
theorem dX6_part_145 : decode cX6_part 145 = .ok (.istore_n 1, 1) := dk_60 (dk_at dksX6_part_6 9 rfl rfl)
theorem dX6_part_146 : decode cX6_part 146 = .ok (.iload_n 1, 1) := dk_27 (dk_at dksX6_part_6 10 rfl rfl)
theorem dX6_part_147 : decode cX6_part 147 = .ok (.iconst (-1), 1) := dk_2 (dk_at dksX6_part_6 11 rfl rfl)
theorem dX6_part_148 : decode cX6_part 148 = .ok (.if_icmp .ne 13, 3) := dk_160 0 13 (dk_at dksX6_part_6 12 rfl rfl)
theorem dX6_part_151 : decode cX6_part 151 = .ok (.aload_n 0, 1) := dk_42 (dk_at dksX6_part_6 15 rfl rfl)
theorem dX6_part_152 : decode cX6_part 152 = .ok (.aload_n 0, 1) := dk_42 (dk_at dksX6_part_6 16 rfl rfl)
theorem dX6_part_153 : decode cX6_part 153 = .ok (.getfield 87, 3) := dk_180 0 87 (dk_at dksX6_part_6 17 rfl rfl)
theorem dX6_part_156 : decode cX6_part 156 = .ok (.invokevirtual 113, 3) := dk_182 0 113 (dk_at dksX6_part_6 20 rfl rfl)
theorem dX6_part_159 : decode cX6_part 159 = .ok (.iconst 0, 1) := dk_3 (dk_at dksX6_part_6 23 rfl rfl)
theorem dX6_part_160 : decode cX6_part 160 = .ok (.ireturn, 1) := dk_172 (dk_at dksX6_part_7 0 rfl rfl)
theorem dX6_part_161 : decode cX6_part 161 = .ok (.aload_n 0, 1) := dk_42 (dk_at dksX6_part_7 1 rfl rfl)
theorem dX6_part_162 : decode cX6_part 162 = .ok (.getfield 29, 3) := dk_180 0 29 (dk_at dksX6_part_7 2 rfl rfl)
theorem dX6_part_165 : decode cX6_part 165 = .ok (.iload_n 1, 1) := dk_27 (dk_at dksX6_part_7 5 rfl rfl)
theorem dX6_part_166 : decode cX6_part 166 = .ok (.iaload, 1) := dk_46 (dk_at dksX6_part_7 6 rfl rfl)
theorem dX6_part_167 : decode cX6_part 167 = .ok (.ireturn, 1) := dk_172 (dk_at dksX6_part_7 7 rfl rfl)
abbrev cX6_groundLine : ByteArray := prog_19_method_36_code
def yX6_groundLine : MethodName := ⟨RX6, "groundLine", "()V"⟩
def dkwX6_groundLine_9 : List UInt8 := [42, 180, 0, 87, 182, 0, 113, 177]
abbrev dktX6_groundLine_9 : List UInt8 := dkwX6_groundLine_9 ++ []
def dkwX6_groundLine_8 : List UInt8 := [182, 0, 148, 61, 42, 180, 0, 25, 2, 160, 0, 11, 42, 180, 0, 7, 16, 8, 28, 79, 167, 0, 11, 42]
abbrev dktX6_groundLine_8 : List UInt8 := dkwX6_groundLine_8 ++ dktX6_groundLine_9
def dkwX6_groundLine_7 : List UInt8 := [160, 0, 11, 42, 180, 0, 7, 16, 7, 28, 79, 167, 0, 44, 42, 18, 177, 182, 0, 117, 153, 0, 27, 42]
abbrev dktX6_groundLine_7 : List UInt8 := dkwX6_groundLine_7 ++ dktX6_groundLine_8
def dkwX6_groundLine_6 : List UInt8 := [167, 0, 77, 42, 18, 175, 182, 0, 117, 153, 0, 27, 42, 182, 0, 148, 61, 42, 180, 0, 25, 2]
abbrev dktX6_groundLine_6 : List UInt8 := dkwX6_groundLine_6 ++ dktX6_groundLine_7
def dkwX6_groundLine_5 : List UInt8 := [167, 0, 99, 42, 18, 173, 182, 0, 117, 153, 0, 16, 42, 16, 6, 3, 17, 3, 231, 182, 0, 170]
abbrev dktX6_groundLine_5 : List UInt8 := dkwX6_groundLine_5 ++ dktX6_groundLine_6
def dkwX6_groundLine_4 : List UInt8 := [46, 182, 0, 163, 167, 0, 119, 42, 18, 168, 182, 0, 117, 153, 0, 14, 42, 8, 3, 16, 100, 182, 0, 170]
abbrev dktX6_groundLine_4 : List UInt8 := dkwX6_groundLine_4 ++ dktX6_groundLine_5
def dkwX6_groundLine_3 : List UInt8 := [42, 18, 166, 182, 0, 117, 153, 0, 25, 42, 17, 0, 131, 42, 180, 0, 7, 7, 46, 42, 180, 0, 7, 6]
abbrev dktX6_groundLine_3 : List UInt8 := dkwX6_groundLine_3 ++ dktX6_groundLine_4
def dkwX6_groundLine_2 : List UInt8 := [153, 0, 24, 42, 16, 67, 42, 180, 0, 7, 6, 46, 42, 180, 0, 7, 7, 46, 182, 0, 163, 167, 0, 150]
abbrev dktX6_groundLine_2 : List UInt8 := dkwX6_groundLine_2 ++ dktX6_groundLine_3
def dkwX6_groundLine_1 : List UInt8 := [18, 156, 182, 0, 117, 153, 0, 11, 42, 27, 182, 0, 158, 167, 0, 180, 42, 18, 161, 182, 0, 117]
abbrev dktX6_groundLine_1 : List UInt8 := dkwX6_groundLine_1 ++ dktX6_groundLine_2
def dkwX6_groundLine_0 : List UInt8 := [42, 182, 0, 110, 60, 42, 18, 151, 182, 0, 117, 153, 0, 11, 42, 27, 182, 0, 153, 167, 0, 197, 42]
abbrev dktX6_groundLine_0 : List UInt8 := dkwX6_groundLine_0 ++ dktX6_groundLine_1
theorem dksX6_groundLine_0 : cX6_groundLine.data.toList.drop 0 = dktX6_groundLine_0 := by decide +kernel
theorem dksX6_groundLine_1 : cX6_groundLine.data.toList.drop 23 = dktX6_groundLine_1 := dk_seg dksX6_groundLine_0 23 rfl rfl
theorem dksX6_groundLine_2 : cX6_groundLine.data.toList.drop 45 = dktX6_groundLine_2 := dk_seg dksX6_groundLine_1 22 rfl rfl
theorem dksX6_groundLine_3 : cX6_groundLine.data.toList.drop 69 = dktX6_groundLine_3 := dk_seg dksX6_groundLine_2 24 rfl rfl
theorem dksX6_groundLine_4 : cX6_groundLine.data.toList.drop 93 = dktX6_groundLine_4 := dk_seg dksX6_groundLine_3 24 rfl rfl
theorem dksX6_groundLine_5 : cX6_groundLine.data.toList.drop 117 = dktX6_groundLine_5 := dk_seg dksX6_groundLine_4 24 rfl rfl
theorem dksX6_groundLine_6 : cX6_groundLine.data.toList.drop 139 = dktX6_groundLine_6 := dk_seg dksX6_groundLine_5 22 rfl rfl
theorem dksX6_groundLine_7 : cX6_groundLine.data.toList.drop 161 = dktX6_groundLine_7 := dk_seg dksX6_groundLine_6 22 rfl rfl
theorem dksX6_groundLine_8 : cX6_groundLine.data.toList.drop 185 = dktX6_groundLine_8 := dk_seg dksX6_groundLine_7 24 rfl rfl
theorem dksX6_groundLine_9 : cX6_groundLine.data.toList.drop 209 = dktX6_groundLine_9 := dk_seg dksX6_groundLine_8 24 rfl rfl
theorem dX6_groundLine_0 : decode cX6_groundLine 0 = .ok (.aload_n 0, 1) := dk_42 (dk_at dksX6_groundLine_0 0 rfl rfl)
theorem dX6_groundLine_1 : decode cX6_groundLine 1 = .ok (.invokevirtual 110, 3) := dk_182 0 110 (dk_at dksX6_groundLine_0 1 rfl rfl)
theorem dX6_groundLine_4 : decode cX6_groundLine 4 = .ok (.istore_n 1, 1) := dk_60 (dk_at dksX6_groundLine_0 4 rfl rfl)
theorem dX6_groundLine_5 : decode cX6_groundLine 5 = .ok (.aload_n 0, 1) := dk_42 (dk_at dksX6_groundLine_0 5 rfl rfl)
theorem dX6_groundLine_6 : decode cX6_groundLine 6 = .ok (.ldc 151, 2) := dk_18 151 (dk_at dksX6_groundLine_0 6 rfl rfl)
theorem dX6_groundLine_8 : decode cX6_groundLine 8 = .ok (.invokevirtual 117, 3) := dk_182 0 117 (dk_at dksX6_groundLine_0 8 rfl rfl)
theorem dX6_groundLine_11 : decode cX6_groundLine 11 = .ok (.ifCond .eq 11, 3) := dk_153 0 11 (dk_at dksX6_groundLine_0 11 rfl rfl)
theorem dX6_groundLine_14 : decode cX6_groundLine 14 = .ok (.aload_n 0, 1) := dk_42 (dk_at dksX6_groundLine_0 14 rfl rfl)
theorem dX6_groundLine_15 : decode cX6_groundLine 15 = .ok (.iload_n 1, 1) := dk_27 (dk_at dksX6_groundLine_0 15 rfl rfl)
theorem dX6_groundLine_16 : decode cX6_groundLine 16 = .ok (.invokevirtual 153, 3) := dk_182 0 153 (dk_at dksX6_groundLine_0 16 rfl rfl)
theorem dX6_groundLine_19 : decode cX6_groundLine 19 = .ok (.goto 197, 3) := dk_167 0 197 (dk_at dksX6_groundLine_0 19 rfl rfl)
theorem dX6_groundLine_22 : decode cX6_groundLine 22 = .ok (.aload_n 0, 1) := dk_42 (dk_at dksX6_groundLine_0 22 rfl rfl)
theorem dX6_groundLine_23 : decode cX6_groundLine 23 = .ok (.ldc 156, 2) := dk_18 156 (dk_at dksX6_groundLine_1 0 rfl rfl)
theorem dX6_groundLine_25 : decode cX6_groundLine 25 = .ok (.invokevirtual 117, 3) := dk_182 0 117 (dk_at dksX6_groundLine_1 2 rfl rfl)
theorem dX6_groundLine_28 : decode cX6_groundLine 28 = .ok (.ifCond .eq 11, 3) := dk_153 0 11 (dk_at dksX6_groundLine_1 5 rfl rfl)
theorem dX6_groundLine_31 : decode cX6_groundLine 31 = .ok (.aload_n 0, 1) := dk_42 (dk_at dksX6_groundLine_1 8 rfl rfl)
theorem dX6_groundLine_32 : decode cX6_groundLine 32 = .ok (.iload_n 1, 1) := dk_27 (dk_at dksX6_groundLine_1 9 rfl rfl)
theorem dX6_groundLine_33 : decode cX6_groundLine 33 = .ok (.invokevirtual 158, 3) := dk_182 0 158 (dk_at dksX6_groundLine_1 10 rfl rfl)
theorem dX6_groundLine_36 : decode cX6_groundLine 36 = .ok (.goto 180, 3) := dk_167 0 180 (dk_at dksX6_groundLine_1 13 rfl rfl)
theorem dX6_groundLine_39 : decode cX6_groundLine 39 = .ok (.aload_n 0, 1) := dk_42 (dk_at dksX6_groundLine_1 16 rfl rfl)
theorem dX6_groundLine_40 : decode cX6_groundLine 40 = .ok (.ldc 161, 2) := dk_18 161 (dk_at dksX6_groundLine_1 17 rfl rfl)
theorem dX6_groundLine_42 : decode cX6_groundLine 42 = .ok (.invokevirtual 117, 3) := dk_182 0 117 (dk_at dksX6_groundLine_1 19 rfl rfl)
theorem dX6_groundLine_45 : decode cX6_groundLine 45 = .ok (.ifCond .eq 24, 3) := dk_153 0 24 (dk_at dksX6_groundLine_2 0 rfl rfl)
theorem dX6_groundLine_48 : decode cX6_groundLine 48 = .ok (.aload_n 0, 1) := dk_42 (dk_at dksX6_groundLine_2 3 rfl rfl)
theorem dX6_groundLine_49 : decode cX6_groundLine 49 = .ok (.bipush 67, 2) := dk_16 67 (dk_at dksX6_groundLine_2 4 rfl rfl)
theorem dX6_groundLine_51 : decode cX6_groundLine 51 = .ok (.aload_n 0, 1) := dk_42 (dk_at dksX6_groundLine_2 6 rfl rfl)
theorem dX6_groundLine_52 : decode cX6_groundLine 52 = .ok (.getfield 7, 3) := dk_180 0 7 (dk_at dksX6_groundLine_2 7 rfl rfl)
theorem dX6_groundLine_55 : decode cX6_groundLine 55 = .ok (.iconst 3, 1) := dk_6 (dk_at dksX6_groundLine_2 10 rfl rfl)
theorem dX6_groundLine_56 : decode cX6_groundLine 56 = .ok (.iaload, 1) := dk_46 (dk_at dksX6_groundLine_2 11 rfl rfl)
theorem dX6_groundLine_57 : decode cX6_groundLine 57 = .ok (.aload_n 0, 1) := dk_42 (dk_at dksX6_groundLine_2 12 rfl rfl)
theorem dX6_groundLine_58 : decode cX6_groundLine 58 = .ok (.getfield 7, 3) := dk_180 0 7 (dk_at dksX6_groundLine_2 13 rfl rfl)
theorem dX6_groundLine_61 : decode cX6_groundLine 61 = .ok (.iconst 4, 1) := dk_7 (dk_at dksX6_groundLine_2 16 rfl rfl)
theorem dX6_groundLine_62 : decode cX6_groundLine 62 = .ok (.iaload, 1) := dk_46 (dk_at dksX6_groundLine_2 17 rfl rfl)
theorem dX6_groundLine_63 : decode cX6_groundLine 63 = .ok (.invokevirtual 163, 3) := dk_182 0 163 (dk_at dksX6_groundLine_2 18 rfl rfl)
theorem dX6_groundLine_66 : decode cX6_groundLine 66 = .ok (.goto 150, 3) := dk_167 0 150 (dk_at dksX6_groundLine_2 21 rfl rfl)
theorem dX6_groundLine_69 : decode cX6_groundLine 69 = .ok (.aload_n 0, 1) := dk_42 (dk_at dksX6_groundLine_3 0 rfl rfl)
theorem dX6_groundLine_70 : decode cX6_groundLine 70 = .ok (.ldc 166, 2) := dk_18 166 (dk_at dksX6_groundLine_3 1 rfl rfl)
theorem dX6_groundLine_72 : decode cX6_groundLine 72 = .ok (.invokevirtual 117, 3) := dk_182 0 117 (dk_at dksX6_groundLine_3 3 rfl rfl)
theorem dX6_groundLine_75 : decode cX6_groundLine 75 = .ok (.ifCond .eq 25, 3) := dk_153 0 25 (dk_at dksX6_groundLine_3 6 rfl rfl)
theorem dX6_groundLine_78 : decode cX6_groundLine 78 = .ok (.aload_n 0, 1) := dk_42 (dk_at dksX6_groundLine_3 9 rfl rfl)
theorem dX6_groundLine_79 : decode cX6_groundLine 79 = .ok (.sipush 131, 3) := dk_17 0 131 (dk_at dksX6_groundLine_3 10 rfl rfl)
theorem dX6_groundLine_82 : decode cX6_groundLine 82 = .ok (.aload_n 0, 1) := dk_42 (dk_at dksX6_groundLine_3 13 rfl rfl)
theorem dX6_groundLine_83 : decode cX6_groundLine 83 = .ok (.getfield 7, 3) := dk_180 0 7 (dk_at dksX6_groundLine_3 14 rfl rfl)
theorem dX6_groundLine_86 : decode cX6_groundLine 86 = .ok (.iconst 4, 1) := dk_7 (dk_at dksX6_groundLine_3 17 rfl rfl)
theorem dX6_groundLine_87 : decode cX6_groundLine 87 = .ok (.iaload, 1) := dk_46 (dk_at dksX6_groundLine_3 18 rfl rfl)
theorem dX6_groundLine_88 : decode cX6_groundLine 88 = .ok (.aload_n 0, 1) := dk_42 (dk_at dksX6_groundLine_3 19 rfl rfl)
theorem dX6_groundLine_89 : decode cX6_groundLine 89 = .ok (.getfield 7, 3) := dk_180 0 7 (dk_at dksX6_groundLine_3 20 rfl rfl)
theorem dX6_groundLine_92 : decode cX6_groundLine 92 = .ok (.iconst 3, 1) := dk_6 (dk_at dksX6_groundLine_3 23 rfl rfl)
theorem dX6_groundLine_93 : decode cX6_groundLine 93 = .ok (.iaload, 1) := dk_46 (dk_at dksX6_groundLine_4 0 rfl rfl)
theorem dX6_groundLine_94 : decode cX6_groundLine 94 = .ok (.invokevirtual 163, 3) := dk_182 0 163 (dk_at dksX6_groundLine_4 1 rfl rfl)
theorem dX6_groundLine_97 : decode cX6_groundLine 97 = .ok (.goto 119, 3) := dk_167 0 119 (dk_at dksX6_groundLine_4 4 rfl rfl)
theorem dX6_groundLine_100 : decode cX6_groundLine 100 = .ok (.aload_n 0, 1) := dk_42 (dk_at dksX6_groundLine_4 7 rfl rfl)
theorem dX6_groundLine_101 : decode cX6_groundLine 101 = .ok (.ldc 168, 2) := dk_18 168 (dk_at dksX6_groundLine_4 8 rfl rfl)
theorem dX6_groundLine_103 : decode cX6_groundLine 103 = .ok (.invokevirtual 117, 3) := dk_182 0 117 (dk_at dksX6_groundLine_4 10 rfl rfl)
theorem dX6_groundLine_106 : decode cX6_groundLine 106 = .ok (.ifCond .eq 14, 3) := dk_153 0 14 (dk_at dksX6_groundLine_4 13 rfl rfl)
theorem dX6_groundLine_109 : decode cX6_groundLine 109 = .ok (.aload_n 0, 1) := dk_42 (dk_at dksX6_groundLine_4 16 rfl rfl)
theorem dX6_groundLine_110 : decode cX6_groundLine 110 = .ok (.iconst 5, 1) := dk_8 (dk_at dksX6_groundLine_4 17 rfl rfl)
theorem dX6_groundLine_111 : decode cX6_groundLine 111 = .ok (.iconst 0, 1) := dk_3 (dk_at dksX6_groundLine_4 18 rfl rfl)
theorem dX6_groundLine_112 : decode cX6_groundLine 112 = .ok (.bipush 100, 2) := dk_16 100 (dk_at dksX6_groundLine_4 19 rfl rfl)
theorem dX6_groundLine_114 : decode cX6_groundLine 114 = .ok (.invokevirtual 170, 3) := dk_182 0 170 (dk_at dksX6_groundLine_4 21 rfl rfl)
theorem dX6_groundLine_117 : decode cX6_groundLine 117 = .ok (.goto 99, 3) := dk_167 0 99 (dk_at dksX6_groundLine_5 0 rfl rfl)
theorem dX6_groundLine_120 : decode cX6_groundLine 120 = .ok (.aload_n 0, 1) := dk_42 (dk_at dksX6_groundLine_5 3 rfl rfl)
theorem dX6_groundLine_121 : decode cX6_groundLine 121 = .ok (.ldc 173, 2) := dk_18 173 (dk_at dksX6_groundLine_5 4 rfl rfl)
theorem dX6_groundLine_123 : decode cX6_groundLine 123 = .ok (.invokevirtual 117, 3) := dk_182 0 117 (dk_at dksX6_groundLine_5 6 rfl rfl)
theorem dX6_groundLine_126 : decode cX6_groundLine 126 = .ok (.ifCond .eq 16, 3) := dk_153 0 16 (dk_at dksX6_groundLine_5 9 rfl rfl)
theorem dX6_groundLine_129 : decode cX6_groundLine 129 = .ok (.aload_n 0, 1) := dk_42 (dk_at dksX6_groundLine_5 12 rfl rfl)
theorem dX6_groundLine_130 : decode cX6_groundLine 130 = .ok (.bipush 6, 2) := dk_16 6 (dk_at dksX6_groundLine_5 13 rfl rfl)
theorem dX6_groundLine_132 : decode cX6_groundLine 132 = .ok (.iconst 0, 1) := dk_3 (dk_at dksX6_groundLine_5 15 rfl rfl)
theorem dX6_groundLine_133 : decode cX6_groundLine 133 = .ok (.sipush 999, 3) := dk_17 3 231 (dk_at dksX6_groundLine_5 16 rfl rfl)
theorem dX6_groundLine_136 : decode cX6_groundLine 136 = .ok (.invokevirtual 170, 3) := dk_182 0 170 (dk_at dksX6_groundLine_5 19 rfl rfl)
theorem dX6_groundLine_139 : decode cX6_groundLine 139 = .ok (.goto 77, 3) := dk_167 0 77 (dk_at dksX6_groundLine_6 0 rfl rfl)
theorem dX6_groundLine_142 : decode cX6_groundLine 142 = .ok (.aload_n 0, 1) := dk_42 (dk_at dksX6_groundLine_6 3 rfl rfl)
theorem dX6_groundLine_143 : decode cX6_groundLine 143 = .ok (.ldc 175, 2) := dk_18 175 (dk_at dksX6_groundLine_6 4 rfl rfl)
theorem dX6_groundLine_145 : decode cX6_groundLine 145 = .ok (.invokevirtual 117, 3) := dk_182 0 117 (dk_at dksX6_groundLine_6 6 rfl rfl)
theorem dX6_groundLine_148 : decode cX6_groundLine 148 = .ok (.ifCond .eq 27, 3) := dk_153 0 27 (dk_at dksX6_groundLine_6 9 rfl rfl)
theorem dX6_groundLine_151 : decode cX6_groundLine 151 = .ok (.aload_n 0, 1) := dk_42 (dk_at dksX6_groundLine_6 12 rfl rfl)
theorem dX6_groundLine_152 : decode cX6_groundLine 152 = .ok (.invokevirtual 148, 3) := dk_182 0 148 (dk_at dksX6_groundLine_6 13 rfl rfl)
theorem dX6_groundLine_155 : decode cX6_groundLine 155 = .ok (.istore_n 2, 1) := dk_61 (dk_at dksX6_groundLine_6 16 rfl rfl)
theorem dX6_groundLine_156 : decode cX6_groundLine 156 = .ok (.aload_n 0, 1) := dk_42 (dk_at dksX6_groundLine_6 17 rfl rfl)
theorem dX6_groundLine_157 : decode cX6_groundLine 157 = .ok (.getfield 25, 3) := dk_180 0 25 (dk_at dksX6_groundLine_6 18 rfl rfl)
theorem dX6_groundLine_160 : decode cX6_groundLine 160 = .ok (.iconst (-1), 1) := dk_2 (dk_at dksX6_groundLine_6 21 rfl rfl)
theorem dX6_groundLine_161 : decode cX6_groundLine 161 = .ok (.if_icmp .ne 11, 3) := dk_160 0 11 (dk_at dksX6_groundLine_7 0 rfl rfl)
theorem dX6_groundLine_164 : decode cX6_groundLine 164 = .ok (.aload_n 0, 1) := dk_42 (dk_at dksX6_groundLine_7 3 rfl rfl)
theorem dX6_groundLine_165 : decode cX6_groundLine 165 = .ok (.getfield 7, 3) := dk_180 0 7 (dk_at dksX6_groundLine_7 4 rfl rfl)
theorem dX6_groundLine_168 : decode cX6_groundLine 168 = .ok (.bipush 7, 2) := dk_16 7 (dk_at dksX6_groundLine_7 7 rfl rfl)
theorem dX6_groundLine_170 : decode cX6_groundLine 170 = .ok (.iload_n 2, 1) := dk_28 (dk_at dksX6_groundLine_7 9 rfl rfl)
theorem dX6_groundLine_171 : decode cX6_groundLine 171 = .ok (.iastore, 1) := dk_79 (dk_at dksX6_groundLine_7 10 rfl rfl)
theorem dX6_groundLine_172 : decode cX6_groundLine 172 = .ok (.goto 44, 3) := dk_167 0 44 (dk_at dksX6_groundLine_7 11 rfl rfl)
theorem dX6_groundLine_175 : decode cX6_groundLine 175 = .ok (.aload_n 0, 1) := dk_42 (dk_at dksX6_groundLine_7 14 rfl rfl)
theorem dX6_groundLine_176 : decode cX6_groundLine 176 = .ok (.ldc 177, 2) := dk_18 177 (dk_at dksX6_groundLine_7 15 rfl rfl)
theorem dX6_groundLine_178 : decode cX6_groundLine 178 = .ok (.invokevirtual 117, 3) := dk_182 0 117 (dk_at dksX6_groundLine_7 17 rfl rfl)
theorem dX6_groundLine_181 : decode cX6_groundLine 181 = .ok (.ifCond .eq 27, 3) := dk_153 0 27 (dk_at dksX6_groundLine_7 20 rfl rfl)
theorem dX6_groundLine_184 : decode cX6_groundLine 184 = .ok (.aload_n 0, 1) := dk_42 (dk_at dksX6_groundLine_7 23 rfl rfl)
theorem dX6_groundLine_185 : decode cX6_groundLine 185 = .ok (.invokevirtual 148, 3) := dk_182 0 148 (dk_at dksX6_groundLine_8 0 rfl rfl)
theorem dX6_groundLine_188 : decode cX6_groundLine 188 = .ok (.istore_n 2, 1) := dk_61 (dk_at dksX6_groundLine_8 3 rfl rfl)
theorem dX6_groundLine_189 : decode cX6_groundLine 189 = .ok (.aload_n 0, 1) := dk_42 (dk_at dksX6_groundLine_8 4 rfl rfl)
theorem dX6_groundLine_190 : decode cX6_groundLine 190 = .ok (.getfield 25, 3) := dk_180 0 25 (dk_at dksX6_groundLine_8 5 rfl rfl)
theorem dX6_groundLine_193 : decode cX6_groundLine 193 = .ok (.iconst (-1), 1) := dk_2 (dk_at dksX6_groundLine_8 8 rfl rfl)
theorem dX6_groundLine_194 : decode cX6_groundLine 194 = .ok (.if_icmp .ne 11, 3) := dk_160 0 11 (dk_at dksX6_groundLine_8 9 rfl rfl)
theorem dX6_groundLine_197 : decode cX6_groundLine 197 = .ok (.aload_n 0, 1) := dk_42 (dk_at dksX6_groundLine_8 12 rfl rfl)
theorem dX6_groundLine_198 : decode cX6_groundLine 198 = .ok (.getfield 7, 3) := dk_180 0 7 (dk_at dksX6_groundLine_8 13 rfl rfl)
theorem dX6_groundLine_201 : decode cX6_groundLine 201 = .ok (.bipush 8, 2) := dk_16 8 (dk_at dksX6_groundLine_8 16 rfl rfl)
theorem dX6_groundLine_203 : decode cX6_groundLine 203 = .ok (.iload_n 2, 1) := dk_28 (dk_at dksX6_groundLine_8 18 rfl rfl)
theorem dX6_groundLine_204 : decode cX6_groundLine 204 = .ok (.iastore, 1) := dk_79 (dk_at dksX6_groundLine_8 19 rfl rfl)
theorem dX6_groundLine_205 : decode cX6_groundLine 205 = .ok (.goto 11, 3) := dk_167 0 11 (dk_at dksX6_groundLine_8 20 rfl rfl)
theorem dX6_groundLine_208 : decode cX6_groundLine 208 = .ok (.aload_n 0, 1) := dk_42 (dk_at dksX6_groundLine_8 23 rfl rfl)
theorem dX6_groundLine_209 : decode cX6_groundLine 209 = .ok (.aload_n 0, 1) := dk_42 (dk_at dksX6_groundLine_9 0 rfl rfl)
theorem dX6_groundLine_210 : decode cX6_groundLine 210 = .ok (.getfield 87, 3) := dk_180 0 87 (dk_at dksX6_groundLine_9 1 rfl rfl)
theorem dX6_groundLine_213 : decode cX6_groundLine 213 = .ok (.invokevirtual 113, 3) := dk_182 0 113 (dk_at dksX6_groundLine_9 4 rfl rfl)
theorem dX6_groundLine_216 : decode cX6_groundLine 216 = .ok (.return_, 1) := dk_177 (dk_at dksX6_groundLine_9 7 rfl rfl)
abbrev cX6_hostLine : ByteArray := prog_19_method_32_code
def yX6_hostLine : MethodName := ⟨RX6, "hostLine", "(I)V"⟩
def dkwX6_hostLine_3 : List UInt8 := [182, 0, 140, 42, 21, 4, 6, 3, 182, 0, 140, 42, 180, 0, 7, 6, 92, 46, 4, 96, 79, 177]
abbrev dktX6_hostLine_3 : List UInt8 := dkwX6_hostLine_3 ++ []
def dkwX6_hostLine_2 : List UInt8 := [54, 4, 42, 21, 4, 3, 28, 182, 0, 140, 42, 21, 4, 4, 29, 182, 0, 140, 42, 21, 4, 5, 3]
abbrev dktX6_hostLine_2 : List UInt8 := dkwX6_hostLine_2 ++ dktX6_hostLine_3
def dkwX6_hostLine_1 : List UInt8 := [182, 0, 129, 61, 42, 182, 0, 137, 62, 42, 180, 0, 25, 2, 159, 0, 4, 177, 42, 180, 0, 7, 6, 46]
abbrev dktX6_hostLine_1 : List UInt8 := dkwX6_hostLine_1 ++ dktX6_hostLine_2
def dkwX6_hostLine_0 : List UInt8 := [42, 180, 0, 7, 6, 46, 16, 8, 160, 0, 8, 42, 27, 182, 0, 113, 42, 18, 135, 3, 16, 9]
abbrev dktX6_hostLine_0 : List UInt8 := dkwX6_hostLine_0 ++ dktX6_hostLine_1
theorem dksX6_hostLine_0 : cX6_hostLine.data.toList.drop 0 = dktX6_hostLine_0 := by decide +kernel
theorem dksX6_hostLine_1 : cX6_hostLine.data.toList.drop 22 = dktX6_hostLine_1 := dk_seg dksX6_hostLine_0 22 rfl rfl
theorem dksX6_hostLine_2 : cX6_hostLine.data.toList.drop 46 = dktX6_hostLine_2 := dk_seg dksX6_hostLine_1 24 rfl rfl
theorem dksX6_hostLine_3 : cX6_hostLine.data.toList.drop 69 = dktX6_hostLine_3 := dk_seg dksX6_hostLine_2 23 rfl rfl
theorem dX6_hostLine_0 : decode cX6_hostLine 0 = .ok (.aload_n 0, 1) := dk_42 (dk_at dksX6_hostLine_0 0 rfl rfl)
theorem dX6_hostLine_1 : decode cX6_hostLine 1 = .ok (.getfield 7, 3) := dk_180 0 7 (dk_at dksX6_hostLine_0 1 rfl rfl)
theorem dX6_hostLine_4 : decode cX6_hostLine 4 = .ok (.iconst 3, 1) := dk_6 (dk_at dksX6_hostLine_0 4 rfl rfl)
theorem dX6_hostLine_5 : decode cX6_hostLine 5 = .ok (.iaload, 1) := dk_46 (dk_at dksX6_hostLine_0 5 rfl rfl)
theorem dX6_hostLine_6 : decode cX6_hostLine 6 = .ok (.bipush 8, 2) := dk_16 8 (dk_at dksX6_hostLine_0 6 rfl rfl)
theorem dX6_hostLine_8 : decode cX6_hostLine 8 = .ok (.if_icmp .ne 8, 3) := dk_160 0 8 (dk_at dksX6_hostLine_0 8 rfl rfl)
theorem dX6_hostLine_11 : decode cX6_hostLine 11 = .ok (.aload_n 0, 1) := dk_42 (dk_at dksX6_hostLine_0 11 rfl rfl)
theorem dX6_hostLine_12 : decode cX6_hostLine 12 = .ok (.iload_n 1, 1) := dk_27 (dk_at dksX6_hostLine_0 12 rfl rfl)
theorem dX6_hostLine_13 : decode cX6_hostLine 13 = .ok (.invokevirtual 113, 3) := dk_182 0 113 (dk_at dksX6_hostLine_0 13 rfl rfl)
theorem dX6_hostLine_16 : decode cX6_hostLine 16 = .ok (.aload_n 0, 1) := dk_42 (dk_at dksX6_hostLine_0 16 rfl rfl)
theorem dX6_hostLine_17 : decode cX6_hostLine 17 = .ok (.ldc 135, 2) := dk_18 135 (dk_at dksX6_hostLine_0 17 rfl rfl)
theorem dX6_hostLine_19 : decode cX6_hostLine 19 = .ok (.iconst 0, 1) := dk_3 (dk_at dksX6_hostLine_0 19 rfl rfl)
theorem dX6_hostLine_20 : decode cX6_hostLine 20 = .ok (.bipush 9, 2) := dk_16 9 (dk_at dksX6_hostLine_0 20 rfl rfl)
theorem dX6_hostLine_22 : decode cX6_hostLine 22 = .ok (.invokevirtual 129, 3) := dk_182 0 129 (dk_at dksX6_hostLine_1 0 rfl rfl)
theorem dX6_hostLine_25 : decode cX6_hostLine 25 = .ok (.istore_n 2, 1) := dk_61 (dk_at dksX6_hostLine_1 3 rfl rfl)
theorem dX6_hostLine_26 : decode cX6_hostLine 26 = .ok (.aload_n 0, 1) := dk_42 (dk_at dksX6_hostLine_1 4 rfl rfl)
theorem dX6_hostLine_27 : decode cX6_hostLine 27 = .ok (.invokevirtual 137, 3) := dk_182 0 137 (dk_at dksX6_hostLine_1 5 rfl rfl)
theorem dX6_hostLine_30 : decode cX6_hostLine 30 = .ok (.istore_n 3, 1) := dk_62 (dk_at dksX6_hostLine_1 8 rfl rfl)
theorem dX6_hostLine_31 : decode cX6_hostLine 31 = .ok (.aload_n 0, 1) := dk_42 (dk_at dksX6_hostLine_1 9 rfl rfl)
theorem dX6_hostLine_32 : decode cX6_hostLine 32 = .ok (.getfield 25, 3) := dk_180 0 25 (dk_at dksX6_hostLine_1 10 rfl rfl)
theorem dX6_hostLine_35 : decode cX6_hostLine 35 = .ok (.iconst (-1), 1) := dk_2 (dk_at dksX6_hostLine_1 13 rfl rfl)
theorem dX6_hostLine_36 : decode cX6_hostLine 36 = .ok (.if_icmp .eq 4, 3) := dk_159 0 4 (dk_at dksX6_hostLine_1 14 rfl rfl)
theorem dX6_hostLine_39 : decode cX6_hostLine 39 = .ok (.return_, 1) := dk_177 (dk_at dksX6_hostLine_1 17 rfl rfl)
theorem dX6_hostLine_40 : decode cX6_hostLine 40 = .ok (.aload_n 0, 1) := dk_42 (dk_at dksX6_hostLine_1 18 rfl rfl)
theorem dX6_hostLine_41 : decode cX6_hostLine 41 = .ok (.getfield 7, 3) := dk_180 0 7 (dk_at dksX6_hostLine_1 19 rfl rfl)
theorem dX6_hostLine_44 : decode cX6_hostLine 44 = .ok (.iconst 3, 1) := dk_6 (dk_at dksX6_hostLine_1 22 rfl rfl)
theorem dX6_hostLine_45 : decode cX6_hostLine 45 = .ok (.iaload, 1) := dk_46 (dk_at dksX6_hostLine_1 23 rfl rfl)
theorem dX6_hostLine_46 : decode cX6_hostLine 46 = .ok (.istore 4, 2) := dk_54 4 (dk_at dksX6_hostLine_2 0 rfl rfl)
theorem dX6_hostLine_48 : decode cX6_hostLine 48 = .ok (.aload_n 0, 1) := dk_42 (dk_at dksX6_hostLine_2 2 rfl rfl)
theorem dX6_hostLine_49 : decode cX6_hostLine 49 = .ok (.iload 4, 2) := dk_21 4 (dk_at dksX6_hostLine_2 3 rfl rfl)
theorem dX6_hostLine_51 : decode cX6_hostLine 51 = .ok (.iconst 0, 1) := dk_3 (dk_at dksX6_hostLine_2 5 rfl rfl)
theorem dX6_hostLine_52 : decode cX6_hostLine 52 = .ok (.iload_n 2, 1) := dk_28 (dk_at dksX6_hostLine_2 6 rfl rfl)
theorem dX6_hostLine_53 : decode cX6_hostLine 53 = .ok (.invokevirtual 140, 3) := dk_182 0 140 (dk_at dksX6_hostLine_2 7 rfl rfl)
theorem dX6_hostLine_56 : decode cX6_hostLine 56 = .ok (.aload_n 0, 1) := dk_42 (dk_at dksX6_hostLine_2 10 rfl rfl)
theorem dX6_hostLine_57 : decode cX6_hostLine 57 = .ok (.iload 4, 2) := dk_21 4 (dk_at dksX6_hostLine_2 11 rfl rfl)
theorem dX6_hostLine_59 : decode cX6_hostLine 59 = .ok (.iconst 1, 1) := dk_4 (dk_at dksX6_hostLine_2 13 rfl rfl)
theorem dX6_hostLine_60 : decode cX6_hostLine 60 = .ok (.iload_n 3, 1) := dk_29 (dk_at dksX6_hostLine_2 14 rfl rfl)
theorem dX6_hostLine_61 : decode cX6_hostLine 61 = .ok (.invokevirtual 140, 3) := dk_182 0 140 (dk_at dksX6_hostLine_2 15 rfl rfl)
theorem dX6_hostLine_64 : decode cX6_hostLine 64 = .ok (.aload_n 0, 1) := dk_42 (dk_at dksX6_hostLine_2 18 rfl rfl)
theorem dX6_hostLine_65 : decode cX6_hostLine 65 = .ok (.iload 4, 2) := dk_21 4 (dk_at dksX6_hostLine_2 19 rfl rfl)
theorem dX6_hostLine_67 : decode cX6_hostLine 67 = .ok (.iconst 2, 1) := dk_5 (dk_at dksX6_hostLine_2 21 rfl rfl)
theorem dX6_hostLine_68 : decode cX6_hostLine 68 = .ok (.iconst 0, 1) := dk_3 (dk_at dksX6_hostLine_2 22 rfl rfl)
theorem dX6_hostLine_69 : decode cX6_hostLine 69 = .ok (.invokevirtual 140, 3) := dk_182 0 140 (dk_at dksX6_hostLine_3 0 rfl rfl)
theorem dX6_hostLine_72 : decode cX6_hostLine 72 = .ok (.aload_n 0, 1) := dk_42 (dk_at dksX6_hostLine_3 3 rfl rfl)
theorem dX6_hostLine_73 : decode cX6_hostLine 73 = .ok (.iload 4, 2) := dk_21 4 (dk_at dksX6_hostLine_3 4 rfl rfl)
theorem dX6_hostLine_75 : decode cX6_hostLine 75 = .ok (.iconst 3, 1) := dk_6 (dk_at dksX6_hostLine_3 6 rfl rfl)
theorem dX6_hostLine_76 : decode cX6_hostLine 76 = .ok (.iconst 0, 1) := dk_3 (dk_at dksX6_hostLine_3 7 rfl rfl)
theorem dX6_hostLine_77 : decode cX6_hostLine 77 = .ok (.invokevirtual 140, 3) := dk_182 0 140 (dk_at dksX6_hostLine_3 8 rfl rfl)
theorem dX6_hostLine_80 : decode cX6_hostLine 80 = .ok (.aload_n 0, 1) := dk_42 (dk_at dksX6_hostLine_3 11 rfl rfl)
theorem dX6_hostLine_81 : decode cX6_hostLine 81 = .ok (.getfield 7, 3) := dk_180 0 7 (dk_at dksX6_hostLine_3 12 rfl rfl)
theorem dX6_hostLine_84 : decode cX6_hostLine 84 = .ok (.iconst 3, 1) := dk_6 (dk_at dksX6_hostLine_3 15 rfl rfl)
theorem dX6_hostLine_85 : decode cX6_hostLine 85 = .ok (.dup2, 1) := dk_92 (dk_at dksX6_hostLine_3 16 rfl rfl)
theorem dX6_hostLine_86 : decode cX6_hostLine 86 = .ok (.iaload, 1) := dk_46 (dk_at dksX6_hostLine_3 17 rfl rfl)
theorem dX6_hostLine_87 : decode cX6_hostLine 87 = .ok (.iconst 1, 1) := dk_4 (dk_at dksX6_hostLine_3 18 rfl rfl)
theorem dX6_hostLine_88 : decode cX6_hostLine 88 = .ok (.iadd, 1) := dk_96 (dk_at dksX6_hostLine_3 19 rfl rfl)
theorem dX6_hostLine_89 : decode cX6_hostLine 89 = .ok (.iastore, 1) := dk_79 (dk_at dksX6_hostLine_3 20 rfl rfl)
theorem dX6_hostLine_90 : decode cX6_hostLine 90 = .ok (.return_, 1) := dk_177 (dk_at dksX6_hostLine_3 21 rfl rfl)
abbrev cX6_after : ByteArray := prog_19_method_29_code
def yX6_after : MethodName := ⟨RX6, "after", "(Ljava/lang/String;II)I"⟩
def dkwX6_after_1 : List UInt8 := [42, 28, 29, 182, 0, 121, 172]
abbrev dktX6_after_1 : List UInt8 := dkwX6_after_1 ++ []
def dkwX6_after_0 : List UInt8 := [42, 180, 0, 25, 2, 160, 0, 19, 42, 43, 182, 0, 117, 154, 0, 11, 42, 42, 180, 0, 87, 182, 0, 113]
abbrev dktX6_after_0 : List UInt8 := dkwX6_after_0 ++ dktX6_after_1
theorem dksX6_after_0 : cX6_after.data.toList.drop 0 = dktX6_after_0 := by decide +kernel
theorem dksX6_after_1 : cX6_after.data.toList.drop 24 = dktX6_after_1 := dk_seg dksX6_after_0 24 rfl rfl
theorem dX6_after_0 : decode cX6_after 0 = .ok (.aload_n 0, 1) := dk_42 (dk_at dksX6_after_0 0 rfl rfl)
theorem dX6_after_1 : decode cX6_after 1 = .ok (.getfield 25, 3) := dk_180 0 25 (dk_at dksX6_after_0 1 rfl rfl)
theorem dX6_after_4 : decode cX6_after 4 = .ok (.iconst (-1), 1) := dk_2 (dk_at dksX6_after_0 4 rfl rfl)
theorem dX6_after_5 : decode cX6_after 5 = .ok (.if_icmp .ne 19, 3) := dk_160 0 19 (dk_at dksX6_after_0 5 rfl rfl)
theorem dX6_after_8 : decode cX6_after 8 = .ok (.aload_n 0, 1) := dk_42 (dk_at dksX6_after_0 8 rfl rfl)
theorem dX6_after_9 : decode cX6_after 9 = .ok (.aload_n 1, 1) := dk_43 (dk_at dksX6_after_0 9 rfl rfl)
theorem dX6_after_10 : decode cX6_after 10 = .ok (.invokevirtual 117, 3) := dk_182 0 117 (dk_at dksX6_after_0 10 rfl rfl)
theorem dX6_after_13 : decode cX6_after 13 = .ok (.ifCond .ne 11, 3) := dk_154 0 11 (dk_at dksX6_after_0 13 rfl rfl)
theorem dX6_after_16 : decode cX6_after 16 = .ok (.aload_n 0, 1) := dk_42 (dk_at dksX6_after_0 16 rfl rfl)
theorem dX6_after_17 : decode cX6_after 17 = .ok (.aload_n 0, 1) := dk_42 (dk_at dksX6_after_0 17 rfl rfl)
theorem dX6_after_18 : decode cX6_after 18 = .ok (.getfield 87, 3) := dk_180 0 87 (dk_at dksX6_after_0 18 rfl rfl)
theorem dX6_after_21 : decode cX6_after 21 = .ok (.invokevirtual 113, 3) := dk_182 0 113 (dk_at dksX6_after_0 21 rfl rfl)
theorem dX6_after_24 : decode cX6_after 24 = .ok (.aload_n 0, 1) := dk_42 (dk_at dksX6_after_1 0 rfl rfl)
theorem dX6_after_25 : decode cX6_after 25 = .ok (.iload_n 2, 1) := dk_28 (dk_at dksX6_after_1 1 rfl rfl)
theorem dX6_after_26 : decode cX6_after 26 = .ok (.iload_n 3, 1) := dk_29 (dk_at dksX6_after_1 2 rfl rfl)
theorem dX6_after_27 : decode cX6_after 27 = .ok (.invokevirtual 121, 3) := dk_182 0 121 (dk_at dksX6_after_1 3 rfl rfl)
theorem dX6_after_30 : decode cX6_after 30 = .ok (.ireturn, 1) := dk_172 (dk_at dksX6_after_1 6 rfl rfl)
abbrev cX6_hours : ByteArray := prog_19_method_31_code
def yX6_hours : MethodName := ⟨RX6, "hours", "()I"⟩
def dkwX6_hours_1 : List UInt8 := [54, 4, 21, 4, 28, 163, 0, 16, 29, 4, 21, 4, 120, 128, 62, 132, 4, 1, 167, 255, 240, 29, 172]
abbrev dktX6_hours_1 : List UInt8 := dkwX6_hours_1 ++ []
def dkwX6_hours_0 : List UInt8 := [42, 18, 127, 3, 16, 7, 182, 0, 129, 60, 42, 18, 133, 27, 16, 7, 182, 0, 129, 61, 3, 62, 27]
abbrev dktX6_hours_0 : List UInt8 := dkwX6_hours_0 ++ dktX6_hours_1
theorem dksX6_hours_0 : cX6_hours.data.toList.drop 0 = dktX6_hours_0 := by decide +kernel
theorem dksX6_hours_1 : cX6_hours.data.toList.drop 23 = dktX6_hours_1 := dk_seg dksX6_hours_0 23 rfl rfl
theorem dX6_hours_0 : decode cX6_hours 0 = .ok (.aload_n 0, 1) := dk_42 (dk_at dksX6_hours_0 0 rfl rfl)
theorem dX6_hours_1 : decode cX6_hours 1 = .ok (.ldc 127, 2) := dk_18 127 (dk_at dksX6_hours_0 1 rfl rfl)
theorem dX6_hours_3 : decode cX6_hours 3 = .ok (.iconst 0, 1) := dk_3 (dk_at dksX6_hours_0 3 rfl rfl)
theorem dX6_hours_4 : decode cX6_hours 4 = .ok (.bipush 7, 2) := dk_16 7 (dk_at dksX6_hours_0 4 rfl rfl)
theorem dX6_hours_6 : decode cX6_hours 6 = .ok (.invokevirtual 129, 3) := dk_182 0 129 (dk_at dksX6_hours_0 6 rfl rfl)
theorem dX6_hours_9 : decode cX6_hours 9 = .ok (.istore_n 1, 1) := dk_60 (dk_at dksX6_hours_0 9 rfl rfl)
theorem dX6_hours_10 : decode cX6_hours 10 = .ok (.aload_n 0, 1) := dk_42 (dk_at dksX6_hours_0 10 rfl rfl)
theorem dX6_hours_11 : decode cX6_hours 11 = .ok (.ldc 133, 2) := dk_18 133 (dk_at dksX6_hours_0 11 rfl rfl)
theorem dX6_hours_13 : decode cX6_hours 13 = .ok (.iload_n 1, 1) := dk_27 (dk_at dksX6_hours_0 13 rfl rfl)
theorem dX6_hours_14 : decode cX6_hours 14 = .ok (.bipush 7, 2) := dk_16 7 (dk_at dksX6_hours_0 14 rfl rfl)
theorem dX6_hours_16 : decode cX6_hours 16 = .ok (.invokevirtual 129, 3) := dk_182 0 129 (dk_at dksX6_hours_0 16 rfl rfl)
theorem dX6_hours_19 : decode cX6_hours 19 = .ok (.istore_n 2, 1) := dk_61 (dk_at dksX6_hours_0 19 rfl rfl)
theorem dX6_hours_20 : decode cX6_hours 20 = .ok (.iconst 0, 1) := dk_3 (dk_at dksX6_hours_0 20 rfl rfl)
theorem dX6_hours_21 : decode cX6_hours 21 = .ok (.istore_n 3, 1) := dk_62 (dk_at dksX6_hours_0 21 rfl rfl)
theorem dX6_hours_22 : decode cX6_hours 22 = .ok (.iload_n 1, 1) := dk_27 (dk_at dksX6_hours_0 22 rfl rfl)
theorem dX6_hours_23 : decode cX6_hours 23 = .ok (.istore 4, 2) := dk_54 4 (dk_at dksX6_hours_1 0 rfl rfl)
theorem dX6_hours_25 : decode cX6_hours 25 = .ok (.iload 4, 2) := dk_21 4 (dk_at dksX6_hours_1 2 rfl rfl)
theorem dX6_hours_27 : decode cX6_hours 27 = .ok (.iload_n 2, 1) := dk_28 (dk_at dksX6_hours_1 4 rfl rfl)
theorem dX6_hours_28 : decode cX6_hours 28 = .ok (.if_icmp .gt 16, 3) := dk_163 0 16 (dk_at dksX6_hours_1 5 rfl rfl)
theorem dX6_hours_31 : decode cX6_hours 31 = .ok (.iload_n 3, 1) := dk_29 (dk_at dksX6_hours_1 8 rfl rfl)
theorem dX6_hours_32 : decode cX6_hours 32 = .ok (.iconst 1, 1) := dk_4 (dk_at dksX6_hours_1 9 rfl rfl)
theorem dX6_hours_33 : decode cX6_hours 33 = .ok (.iload 4, 2) := dk_21 4 (dk_at dksX6_hours_1 10 rfl rfl)
theorem dX6_hours_35 : decode cX6_hours 35 = .ok (.ishl, 1) := dk_120 (dk_at dksX6_hours_1 12 rfl rfl)
theorem dX6_hours_36 : decode cX6_hours 36 = .ok (.ior, 1) := dk_128 (dk_at dksX6_hours_1 13 rfl rfl)
theorem dX6_hours_37 : decode cX6_hours 37 = .ok (.istore_n 3, 1) := dk_62 (dk_at dksX6_hours_1 14 rfl rfl)
theorem dX6_hours_38 : decode cX6_hours 38 = .ok (.iinc 4 1, 3) := dk_132 4 1 (dk_at dksX6_hours_1 15 rfl rfl)
theorem dX6_hours_41 : decode cX6_hours 41 = .ok (.goto (-16), 3) := dk_167 255 240 (dk_at dksX6_hours_1 18 rfl rfl)
theorem dX6_hours_44 : decode cX6_hours 44 = .ok (.iload_n 3, 1) := dk_29 (dk_at dksX6_hours_1 21 rfl rfl)
theorem dX6_hours_45 : decode cX6_hours 45 = .ok (.ireturn, 1) := dk_172 (dk_at dksX6_hours_1 22 rfl rfl)
abbrev cX6_put : ByteArray := prog_19_method_9_code
def yX6_put : MethodName := ⟨RX6, "put", "(III)V"⟩
def dkwX6_put_0 : List UInt8 := [42, 180, 0, 7, 16, 11, 7, 27, 104, 96, 28, 96, 29, 79, 177]
abbrev dktX6_put_0 : List UInt8 := dkwX6_put_0 ++ []
theorem dksX6_put_0 : cX6_put.data.toList.drop 0 = dktX6_put_0 := by decide +kernel
theorem dX6_put_0 : decode cX6_put 0 = .ok (.aload_n 0, 1) := dk_42 (dk_at dksX6_put_0 0 rfl rfl)
theorem dX6_put_1 : decode cX6_put 1 = .ok (.getfield 7, 3) := dk_180 0 7 (dk_at dksX6_put_0 1 rfl rfl)
theorem dX6_put_4 : decode cX6_put 4 = .ok (.bipush 11, 2) := dk_16 11 (dk_at dksX6_put_0 4 rfl rfl)
theorem dX6_put_6 : decode cX6_put 6 = .ok (.iconst 4, 1) := dk_7 (dk_at dksX6_put_0 6 rfl rfl)
theorem dX6_put_7 : decode cX6_put 7 = .ok (.iload_n 1, 1) := dk_27 (dk_at dksX6_put_0 7 rfl rfl)
theorem dX6_put_8 : decode cX6_put 8 = .ok (.imul, 1) := dk_104 (dk_at dksX6_put_0 8 rfl rfl)
theorem dX6_put_9 : decode cX6_put 9 = .ok (.iadd, 1) := dk_96 (dk_at dksX6_put_0 9 rfl rfl)
theorem dX6_put_10 : decode cX6_put 10 = .ok (.iload_n 2, 1) := dk_28 (dk_at dksX6_put_0 10 rfl rfl)
theorem dX6_put_11 : decode cX6_put 11 = .ok (.iadd, 1) := dk_96 (dk_at dksX6_put_0 11 rfl rfl)
theorem dX6_put_12 : decode cX6_put 12 = .ok (.iload_n 3, 1) := dk_29 (dk_at dksX6_put_0 12 rfl rfl)
theorem dX6_put_13 : decode cX6_put 13 = .ok (.iastore, 1) := dk_79 (dk_at dksX6_put_0 13 rfl rfl)
theorem dX6_put_14 : decode cX6_put 14 = .ok (.return_, 1) := dk_177 (dk_at dksX6_put_0 14 rfl rfl)
abbrev cX6_guestLine : ByteArray := prog_19_method_33_code
def yX6_guestLine : MethodName := ⟨RX6, "guestLine", "(I)V"⟩
def dkwX6_guestLine_5 : List UInt8 := [4, 96, 79, 177]
abbrev dktX6_guestLine_5 : List UInt8 := dkwX6_guestLine_5 ++ []
def dkwX6_guestLine_4 : List UInt8 := [21, 5, 4, 96, 29, 79, 42, 180, 0, 7, 21, 5, 5, 96, 21, 4, 79, 42, 180, 0, 7, 7, 92, 46]
abbrev dktX6_guestLine_4 : List UInt8 := dkwX6_guestLine_4 ++ dktX6_guestLine_5
def dkwX6_guestLine_3 : List UInt8 := [180, 0, 7, 7, 46, 104, 96, 54, 5, 42, 180, 0, 7, 21, 5, 3, 96, 28, 79, 42, 180, 0, 7]
abbrev dktX6_guestLine_3 : List UInt8 := dkwX6_guestLine_3 ++ dktX6_guestLine_4
def dkwX6_guestLine_2 : List UInt8 := [182, 0, 148, 167, 0, 4, 3, 54, 4, 42, 180, 0, 25, 2, 159, 0, 4, 177, 16, 43, 6, 42]
abbrev dktX6_guestLine_2 : List UInt8 := dkwX6_guestLine_2 ++ dktX6_guestLine_3
def dkwX6_guestLine_1 : List UInt8 := [61, 42, 182, 0, 137, 62, 42, 180, 0, 25, 2, 160, 0, 19, 42, 18, 146, 182, 0, 117, 153, 0, 10, 42]
abbrev dktX6_guestLine_1 : List UInt8 := dkwX6_guestLine_1 ++ dktX6_guestLine_2
def dkwX6_guestLine_0 : List UInt8 := [42, 180, 0, 7, 7, 46, 16, 8, 160, 0, 8, 42, 27, 182, 0, 113, 42, 18, 144, 4, 7, 182, 0, 129]
abbrev dktX6_guestLine_0 : List UInt8 := dkwX6_guestLine_0 ++ dktX6_guestLine_1
theorem dksX6_guestLine_0 : cX6_guestLine.data.toList.drop 0 = dktX6_guestLine_0 := by decide +kernel
theorem dksX6_guestLine_1 : cX6_guestLine.data.toList.drop 24 = dktX6_guestLine_1 := dk_seg dksX6_guestLine_0 24 rfl rfl
theorem dksX6_guestLine_2 : cX6_guestLine.data.toList.drop 48 = dktX6_guestLine_2 := dk_seg dksX6_guestLine_1 24 rfl rfl
theorem dksX6_guestLine_3 : cX6_guestLine.data.toList.drop 70 = dktX6_guestLine_3 := dk_seg dksX6_guestLine_2 22 rfl rfl
theorem dksX6_guestLine_4 : cX6_guestLine.data.toList.drop 93 = dktX6_guestLine_4 := dk_seg dksX6_guestLine_3 23 rfl rfl
theorem dksX6_guestLine_5 : cX6_guestLine.data.toList.drop 117 = dktX6_guestLine_5 := dk_seg dksX6_guestLine_4 24 rfl rfl
theorem dX6_guestLine_0 : decode cX6_guestLine 0 = .ok (.aload_n 0, 1) := dk_42 (dk_at dksX6_guestLine_0 0 rfl rfl)
theorem dX6_guestLine_1 : decode cX6_guestLine 1 = .ok (.getfield 7, 3) := dk_180 0 7 (dk_at dksX6_guestLine_0 1 rfl rfl)
theorem dX6_guestLine_4 : decode cX6_guestLine 4 = .ok (.iconst 4, 1) := dk_7 (dk_at dksX6_guestLine_0 4 rfl rfl)
theorem dX6_guestLine_5 : decode cX6_guestLine 5 = .ok (.iaload, 1) := dk_46 (dk_at dksX6_guestLine_0 5 rfl rfl)
theorem dX6_guestLine_6 : decode cX6_guestLine 6 = .ok (.bipush 8, 2) := dk_16 8 (dk_at dksX6_guestLine_0 6 rfl rfl)
theorem dX6_guestLine_8 : decode cX6_guestLine 8 = .ok (.if_icmp .ne 8, 3) := dk_160 0 8 (dk_at dksX6_guestLine_0 8 rfl rfl)
theorem dX6_guestLine_11 : decode cX6_guestLine 11 = .ok (.aload_n 0, 1) := dk_42 (dk_at dksX6_guestLine_0 11 rfl rfl)
theorem dX6_guestLine_12 : decode cX6_guestLine 12 = .ok (.iload_n 1, 1) := dk_27 (dk_at dksX6_guestLine_0 12 rfl rfl)
theorem dX6_guestLine_13 : decode cX6_guestLine 13 = .ok (.invokevirtual 113, 3) := dk_182 0 113 (dk_at dksX6_guestLine_0 13 rfl rfl)
theorem dX6_guestLine_16 : decode cX6_guestLine 16 = .ok (.aload_n 0, 1) := dk_42 (dk_at dksX6_guestLine_0 16 rfl rfl)
theorem dX6_guestLine_17 : decode cX6_guestLine 17 = .ok (.ldc 144, 2) := dk_18 144 (dk_at dksX6_guestLine_0 17 rfl rfl)
theorem dX6_guestLine_19 : decode cX6_guestLine 19 = .ok (.iconst 1, 1) := dk_4 (dk_at dksX6_guestLine_0 19 rfl rfl)
theorem dX6_guestLine_20 : decode cX6_guestLine 20 = .ok (.iconst 4, 1) := dk_7 (dk_at dksX6_guestLine_0 20 rfl rfl)
theorem dX6_guestLine_21 : decode cX6_guestLine 21 = .ok (.invokevirtual 129, 3) := dk_182 0 129 (dk_at dksX6_guestLine_0 21 rfl rfl)
theorem dX6_guestLine_24 : decode cX6_guestLine 24 = .ok (.istore_n 2, 1) := dk_61 (dk_at dksX6_guestLine_1 0 rfl rfl)
theorem dX6_guestLine_25 : decode cX6_guestLine 25 = .ok (.aload_n 0, 1) := dk_42 (dk_at dksX6_guestLine_1 1 rfl rfl)
theorem dX6_guestLine_26 : decode cX6_guestLine 26 = .ok (.invokevirtual 137, 3) := dk_182 0 137 (dk_at dksX6_guestLine_1 2 rfl rfl)
theorem dX6_guestLine_29 : decode cX6_guestLine 29 = .ok (.istore_n 3, 1) := dk_62 (dk_at dksX6_guestLine_1 5 rfl rfl)
theorem dX6_guestLine_30 : decode cX6_guestLine 30 = .ok (.aload_n 0, 1) := dk_42 (dk_at dksX6_guestLine_1 6 rfl rfl)
theorem dX6_guestLine_31 : decode cX6_guestLine 31 = .ok (.getfield 25, 3) := dk_180 0 25 (dk_at dksX6_guestLine_1 7 rfl rfl)
theorem dX6_guestLine_34 : decode cX6_guestLine 34 = .ok (.iconst (-1), 1) := dk_2 (dk_at dksX6_guestLine_1 10 rfl rfl)
theorem dX6_guestLine_35 : decode cX6_guestLine 35 = .ok (.if_icmp .ne 19, 3) := dk_160 0 19 (dk_at dksX6_guestLine_1 11 rfl rfl)
theorem dX6_guestLine_38 : decode cX6_guestLine 38 = .ok (.aload_n 0, 1) := dk_42 (dk_at dksX6_guestLine_1 14 rfl rfl)
theorem dX6_guestLine_39 : decode cX6_guestLine 39 = .ok (.ldc 146, 2) := dk_18 146 (dk_at dksX6_guestLine_1 15 rfl rfl)
theorem dX6_guestLine_41 : decode cX6_guestLine 41 = .ok (.invokevirtual 117, 3) := dk_182 0 117 (dk_at dksX6_guestLine_1 17 rfl rfl)
theorem dX6_guestLine_44 : decode cX6_guestLine 44 = .ok (.ifCond .eq 10, 3) := dk_153 0 10 (dk_at dksX6_guestLine_1 20 rfl rfl)
theorem dX6_guestLine_47 : decode cX6_guestLine 47 = .ok (.aload_n 0, 1) := dk_42 (dk_at dksX6_guestLine_1 23 rfl rfl)
theorem dX6_guestLine_48 : decode cX6_guestLine 48 = .ok (.invokevirtual 148, 3) := dk_182 0 148 (dk_at dksX6_guestLine_2 0 rfl rfl)
theorem dX6_guestLine_51 : decode cX6_guestLine 51 = .ok (.goto 4, 3) := dk_167 0 4 (dk_at dksX6_guestLine_2 3 rfl rfl)
theorem dX6_guestLine_54 : decode cX6_guestLine 54 = .ok (.iconst 0, 1) := dk_3 (dk_at dksX6_guestLine_2 6 rfl rfl)
theorem dX6_guestLine_55 : decode cX6_guestLine 55 = .ok (.istore 4, 2) := dk_54 4 (dk_at dksX6_guestLine_2 7 rfl rfl)
theorem dX6_guestLine_57 : decode cX6_guestLine 57 = .ok (.aload_n 0, 1) := dk_42 (dk_at dksX6_guestLine_2 9 rfl rfl)
theorem dX6_guestLine_58 : decode cX6_guestLine 58 = .ok (.getfield 25, 3) := dk_180 0 25 (dk_at dksX6_guestLine_2 10 rfl rfl)
theorem dX6_guestLine_61 : decode cX6_guestLine 61 = .ok (.iconst (-1), 1) := dk_2 (dk_at dksX6_guestLine_2 13 rfl rfl)
theorem dX6_guestLine_62 : decode cX6_guestLine 62 = .ok (.if_icmp .eq 4, 3) := dk_159 0 4 (dk_at dksX6_guestLine_2 14 rfl rfl)
theorem dX6_guestLine_65 : decode cX6_guestLine 65 = .ok (.return_, 1) := dk_177 (dk_at dksX6_guestLine_2 17 rfl rfl)
theorem dX6_guestLine_66 : decode cX6_guestLine 66 = .ok (.bipush 43, 2) := dk_16 43 (dk_at dksX6_guestLine_2 18 rfl rfl)
theorem dX6_guestLine_68 : decode cX6_guestLine 68 = .ok (.iconst 3, 1) := dk_6 (dk_at dksX6_guestLine_2 20 rfl rfl)
theorem dX6_guestLine_69 : decode cX6_guestLine 69 = .ok (.aload_n 0, 1) := dk_42 (dk_at dksX6_guestLine_2 21 rfl rfl)
theorem dX6_guestLine_70 : decode cX6_guestLine 70 = .ok (.getfield 7, 3) := dk_180 0 7 (dk_at dksX6_guestLine_3 0 rfl rfl)
theorem dX6_guestLine_73 : decode cX6_guestLine 73 = .ok (.iconst 4, 1) := dk_7 (dk_at dksX6_guestLine_3 3 rfl rfl)
theorem dX6_guestLine_74 : decode cX6_guestLine 74 = .ok (.iaload, 1) := dk_46 (dk_at dksX6_guestLine_3 4 rfl rfl)
theorem dX6_guestLine_75 : decode cX6_guestLine 75 = .ok (.imul, 1) := dk_104 (dk_at dksX6_guestLine_3 5 rfl rfl)
theorem dX6_guestLine_76 : decode cX6_guestLine 76 = .ok (.iadd, 1) := dk_96 (dk_at dksX6_guestLine_3 6 rfl rfl)
theorem dX6_guestLine_77 : decode cX6_guestLine 77 = .ok (.istore 5, 2) := dk_54 5 (dk_at dksX6_guestLine_3 7 rfl rfl)
theorem dX6_guestLine_79 : decode cX6_guestLine 79 = .ok (.aload_n 0, 1) := dk_42 (dk_at dksX6_guestLine_3 9 rfl rfl)
theorem dX6_guestLine_80 : decode cX6_guestLine 80 = .ok (.getfield 7, 3) := dk_180 0 7 (dk_at dksX6_guestLine_3 10 rfl rfl)
theorem dX6_guestLine_83 : decode cX6_guestLine 83 = .ok (.iload 5, 2) := dk_21 5 (dk_at dksX6_guestLine_3 13 rfl rfl)
theorem dX6_guestLine_85 : decode cX6_guestLine 85 = .ok (.iconst 0, 1) := dk_3 (dk_at dksX6_guestLine_3 15 rfl rfl)
theorem dX6_guestLine_86 : decode cX6_guestLine 86 = .ok (.iadd, 1) := dk_96 (dk_at dksX6_guestLine_3 16 rfl rfl)
theorem dX6_guestLine_87 : decode cX6_guestLine 87 = .ok (.iload_n 2, 1) := dk_28 (dk_at dksX6_guestLine_3 17 rfl rfl)
theorem dX6_guestLine_88 : decode cX6_guestLine 88 = .ok (.iastore, 1) := dk_79 (dk_at dksX6_guestLine_3 18 rfl rfl)
theorem dX6_guestLine_89 : decode cX6_guestLine 89 = .ok (.aload_n 0, 1) := dk_42 (dk_at dksX6_guestLine_3 19 rfl rfl)
theorem dX6_guestLine_90 : decode cX6_guestLine 90 = .ok (.getfield 7, 3) := dk_180 0 7 (dk_at dksX6_guestLine_3 20 rfl rfl)
theorem dX6_guestLine_93 : decode cX6_guestLine 93 = .ok (.iload 5, 2) := dk_21 5 (dk_at dksX6_guestLine_4 0 rfl rfl)
theorem dX6_guestLine_95 : decode cX6_guestLine 95 = .ok (.iconst 1, 1) := dk_4 (dk_at dksX6_guestLine_4 2 rfl rfl)
theorem dX6_guestLine_96 : decode cX6_guestLine 96 = .ok (.iadd, 1) := dk_96 (dk_at dksX6_guestLine_4 3 rfl rfl)
theorem dX6_guestLine_97 : decode cX6_guestLine 97 = .ok (.iload_n 3, 1) := dk_29 (dk_at dksX6_guestLine_4 4 rfl rfl)
theorem dX6_guestLine_98 : decode cX6_guestLine 98 = .ok (.iastore, 1) := dk_79 (dk_at dksX6_guestLine_4 5 rfl rfl)
theorem dX6_guestLine_99 : decode cX6_guestLine 99 = .ok (.aload_n 0, 1) := dk_42 (dk_at dksX6_guestLine_4 6 rfl rfl)
theorem dX6_guestLine_100 : decode cX6_guestLine 100 = .ok (.getfield 7, 3) := dk_180 0 7 (dk_at dksX6_guestLine_4 7 rfl rfl)
theorem dX6_guestLine_103 : decode cX6_guestLine 103 = .ok (.iload 5, 2) := dk_21 5 (dk_at dksX6_guestLine_4 10 rfl rfl)
theorem dX6_guestLine_105 : decode cX6_guestLine 105 = .ok (.iconst 2, 1) := dk_5 (dk_at dksX6_guestLine_4 12 rfl rfl)
theorem dX6_guestLine_106 : decode cX6_guestLine 106 = .ok (.iadd, 1) := dk_96 (dk_at dksX6_guestLine_4 13 rfl rfl)
theorem dX6_guestLine_107 : decode cX6_guestLine 107 = .ok (.iload 4, 2) := dk_21 4 (dk_at dksX6_guestLine_4 14 rfl rfl)
theorem dX6_guestLine_109 : decode cX6_guestLine 109 = .ok (.iastore, 1) := dk_79 (dk_at dksX6_guestLine_4 16 rfl rfl)
theorem dX6_guestLine_110 : decode cX6_guestLine 110 = .ok (.aload_n 0, 1) := dk_42 (dk_at dksX6_guestLine_4 17 rfl rfl)
theorem dX6_guestLine_111 : decode cX6_guestLine 111 = .ok (.getfield 7, 3) := dk_180 0 7 (dk_at dksX6_guestLine_4 18 rfl rfl)
theorem dX6_guestLine_114 : decode cX6_guestLine 114 = .ok (.iconst 4, 1) := dk_7 (dk_at dksX6_guestLine_4 21 rfl rfl)
theorem dX6_guestLine_115 : decode cX6_guestLine 115 = .ok (.dup2, 1) := dk_92 (dk_at dksX6_guestLine_4 22 rfl rfl)
theorem dX6_guestLine_116 : decode cX6_guestLine 116 = .ok (.iaload, 1) := dk_46 (dk_at dksX6_guestLine_4 23 rfl rfl)
theorem dX6_guestLine_117 : decode cX6_guestLine 117 = .ok (.iconst 1, 1) := dk_4 (dk_at dksX6_guestLine_5 0 rfl rfl)
theorem dX6_guestLine_118 : decode cX6_guestLine 118 = .ok (.iadd, 1) := dk_96 (dk_at dksX6_guestLine_5 1 rfl rfl)
theorem dX6_guestLine_119 : decode cX6_guestLine 119 = .ok (.iastore, 1) := dk_79 (dk_at dksX6_guestLine_5 2 rfl rfl)
theorem dX6_guestLine_120 : decode cX6_guestLine 120 = .ok (.return_, 1) := dk_177 (dk_at dksX6_guestLine_5 3 rfl rfl)
abbrev cX6_letters : ByteArray := prog_19_method_30_code
def yX6_letters : MethodName := ⟨RX6, "letters", "()I"⟩
def dkwX6_letters_5 : List UInt8 := [180, 0, 87, 27, 159, 0, 7, 29, 154, 0, 8, 42, 27, 182, 0, 113, 28, 172]
abbrev dktX6_letters_5 : List UInt8 := dkwX6_letters_5 ++ []
def dkwX6_letters_4 : List UInt8 := [4, 21, 4, 120, 167, 0, 4, 3, 128, 61, 42, 89, 180, 0, 87, 4, 96, 181, 0, 87, 167, 255, 159, 42]
abbrev dktX6_letters_4 : List UInt8 := dkwX6_letters_4 ++ dktX6_letters_5
def dkwX6_letters_3 : List UInt8 := [28, 21, 4, 8, 184, 0, 124, 184, 0, 74, 154, 0, 7, 4, 167, 0, 4, 3, 62, 28, 29, 153, 0, 10]
abbrev dktX6_letters_3 : List UInt8 := dkwX6_letters_3 ++ dktX6_letters_4
def dkwX6_letters_2 : List UInt8 := [42, 42, 180, 0, 87, 182, 0, 93, 16, 97, 100, 54, 4, 29, 153, 0, 27, 21, 4, 16, 6, 162, 0, 20]
abbrev dktX6_letters_2 : List UInt8 := dkwX6_letters_2 ++ dktX6_letters_3
def dkwX6_letters_1 : List UInt8 := [180, 0, 90, 162, 0, 92, 42, 42, 180, 0, 87, 182, 0, 93, 16, 97, 16, 122, 184, 0, 57, 153, 0, 74]
abbrev dktX6_letters_1 : List UInt8 := dkwX6_letters_1 ++ dktX6_letters_2
def dkwX6_letters_0 : List UInt8 := [42, 180, 0, 25, 2, 159, 0, 5, 3, 172, 42, 182, 0, 110, 60, 3, 61, 4, 62, 42, 180, 0, 87, 42]
abbrev dktX6_letters_0 : List UInt8 := dkwX6_letters_0 ++ dktX6_letters_1
theorem dksX6_letters_0 : cX6_letters.data.toList.drop 0 = dktX6_letters_0 := by decide +kernel
theorem dksX6_letters_1 : cX6_letters.data.toList.drop 24 = dktX6_letters_1 := dk_seg dksX6_letters_0 24 rfl rfl
theorem dksX6_letters_2 : cX6_letters.data.toList.drop 48 = dktX6_letters_2 := dk_seg dksX6_letters_1 24 rfl rfl
theorem dksX6_letters_3 : cX6_letters.data.toList.drop 72 = dktX6_letters_3 := dk_seg dksX6_letters_2 24 rfl rfl
theorem dksX6_letters_4 : cX6_letters.data.toList.drop 96 = dktX6_letters_4 := dk_seg dksX6_letters_3 24 rfl rfl
theorem dksX6_letters_5 : cX6_letters.data.toList.drop 120 = dktX6_letters_5 := dk_seg dksX6_letters_4 24 rfl rfl
theorem dX6_letters_0 : decode cX6_letters 0 = .ok (.aload_n 0, 1) := dk_42 (dk_at dksX6_letters_0 0 rfl rfl)
theorem dX6_letters_1 : decode cX6_letters 1 = .ok (.getfield 25, 3) := dk_180 0 25 (dk_at dksX6_letters_0 1 rfl rfl)
theorem dX6_letters_4 : decode cX6_letters 4 = .ok (.iconst (-1), 1) := dk_2 (dk_at dksX6_letters_0 4 rfl rfl)
theorem dX6_letters_5 : decode cX6_letters 5 = .ok (.if_icmp .eq 5, 3) := dk_159 0 5 (dk_at dksX6_letters_0 5 rfl rfl)
theorem dX6_letters_8 : decode cX6_letters 8 = .ok (.iconst 0, 1) := dk_3 (dk_at dksX6_letters_0 8 rfl rfl)
theorem dX6_letters_9 : decode cX6_letters 9 = .ok (.ireturn, 1) := dk_172 (dk_at dksX6_letters_0 9 rfl rfl)
theorem dX6_letters_10 : decode cX6_letters 10 = .ok (.aload_n 0, 1) := dk_42 (dk_at dksX6_letters_0 10 rfl rfl)
theorem dX6_letters_11 : decode cX6_letters 11 = .ok (.invokevirtual 110, 3) := dk_182 0 110 (dk_at dksX6_letters_0 11 rfl rfl)
theorem dX6_letters_14 : decode cX6_letters 14 = .ok (.istore_n 1, 1) := dk_60 (dk_at dksX6_letters_0 14 rfl rfl)
theorem dX6_letters_15 : decode cX6_letters 15 = .ok (.iconst 0, 1) := dk_3 (dk_at dksX6_letters_0 15 rfl rfl)
theorem dX6_letters_16 : decode cX6_letters 16 = .ok (.istore_n 2, 1) := dk_61 (dk_at dksX6_letters_0 16 rfl rfl)
theorem dX6_letters_17 : decode cX6_letters 17 = .ok (.iconst 1, 1) := dk_4 (dk_at dksX6_letters_0 17 rfl rfl)
theorem dX6_letters_18 : decode cX6_letters 18 = .ok (.istore_n 3, 1) := dk_62 (dk_at dksX6_letters_0 18 rfl rfl)
theorem dX6_letters_19 : decode cX6_letters 19 = .ok (.aload_n 0, 1) := dk_42 (dk_at dksX6_letters_0 19 rfl rfl)
theorem dX6_letters_20 : decode cX6_letters 20 = .ok (.getfield 87, 3) := dk_180 0 87 (dk_at dksX6_letters_0 20 rfl rfl)
theorem dX6_letters_23 : decode cX6_letters 23 = .ok (.aload_n 0, 1) := dk_42 (dk_at dksX6_letters_0 23 rfl rfl)
theorem dX6_letters_24 : decode cX6_letters 24 = .ok (.getfield 90, 3) := dk_180 0 90 (dk_at dksX6_letters_1 0 rfl rfl)
theorem dX6_letters_27 : decode cX6_letters 27 = .ok (.if_icmp .ge 92, 3) := dk_162 0 92 (dk_at dksX6_letters_1 3 rfl rfl)
theorem dX6_letters_30 : decode cX6_letters 30 = .ok (.aload_n 0, 1) := dk_42 (dk_at dksX6_letters_1 6 rfl rfl)
theorem dX6_letters_31 : decode cX6_letters 31 = .ok (.aload_n 0, 1) := dk_42 (dk_at dksX6_letters_1 7 rfl rfl)
theorem dX6_letters_32 : decode cX6_letters 32 = .ok (.getfield 87, 3) := dk_180 0 87 (dk_at dksX6_letters_1 8 rfl rfl)
theorem dX6_letters_35 : decode cX6_letters 35 = .ok (.invokevirtual 93, 3) := dk_182 0 93 (dk_at dksX6_letters_1 11 rfl rfl)
theorem dX6_letters_38 : decode cX6_letters 38 = .ok (.bipush 97, 2) := dk_16 97 (dk_at dksX6_letters_1 14 rfl rfl)
theorem dX6_letters_40 : decode cX6_letters 40 = .ok (.bipush 122, 2) := dk_16 122 (dk_at dksX6_letters_1 16 rfl rfl)
theorem dX6_letters_42 : decode cX6_letters 42 = .ok (.invokestatic 57, 3) := dk_184 0 57 (dk_at dksX6_letters_1 18 rfl rfl)
theorem dX6_letters_45 : decode cX6_letters 45 = .ok (.ifCond .eq 74, 3) := dk_153 0 74 (dk_at dksX6_letters_1 21 rfl rfl)
theorem dX6_letters_48 : decode cX6_letters 48 = .ok (.aload_n 0, 1) := dk_42 (dk_at dksX6_letters_2 0 rfl rfl)
theorem dX6_letters_49 : decode cX6_letters 49 = .ok (.aload_n 0, 1) := dk_42 (dk_at dksX6_letters_2 1 rfl rfl)
theorem dX6_letters_50 : decode cX6_letters 50 = .ok (.getfield 87, 3) := dk_180 0 87 (dk_at dksX6_letters_2 2 rfl rfl)
theorem dX6_letters_53 : decode cX6_letters 53 = .ok (.invokevirtual 93, 3) := dk_182 0 93 (dk_at dksX6_letters_2 5 rfl rfl)
theorem dX6_letters_56 : decode cX6_letters 56 = .ok (.bipush 97, 2) := dk_16 97 (dk_at dksX6_letters_2 8 rfl rfl)
theorem dX6_letters_58 : decode cX6_letters 58 = .ok (.isub, 1) := dk_100 (dk_at dksX6_letters_2 10 rfl rfl)
theorem dX6_letters_59 : decode cX6_letters 59 = .ok (.istore 4, 2) := dk_54 4 (dk_at dksX6_letters_2 11 rfl rfl)
theorem dX6_letters_61 : decode cX6_letters 61 = .ok (.iload_n 3, 1) := dk_29 (dk_at dksX6_letters_2 13 rfl rfl)
theorem dX6_letters_62 : decode cX6_letters 62 = .ok (.ifCond .eq 27, 3) := dk_153 0 27 (dk_at dksX6_letters_2 14 rfl rfl)
theorem dX6_letters_65 : decode cX6_letters 65 = .ok (.iload 4, 2) := dk_21 4 (dk_at dksX6_letters_2 17 rfl rfl)
theorem dX6_letters_67 : decode cX6_letters 67 = .ok (.bipush 6, 2) := dk_16 6 (dk_at dksX6_letters_2 19 rfl rfl)
theorem dX6_letters_69 : decode cX6_letters 69 = .ok (.if_icmp .ge 20, 3) := dk_162 0 20 (dk_at dksX6_letters_2 21 rfl rfl)
theorem dX6_letters_72 : decode cX6_letters 72 = .ok (.iload_n 2, 1) := dk_28 (dk_at dksX6_letters_3 0 rfl rfl)
theorem dX6_letters_73 : decode cX6_letters 73 = .ok (.iload 4, 2) := dk_21 4 (dk_at dksX6_letters_3 1 rfl rfl)
theorem dX6_letters_75 : decode cX6_letters 75 = .ok (.iconst 5, 1) := dk_8 (dk_at dksX6_letters_3 3 rfl rfl)
theorem dX6_letters_76 : decode cX6_letters 76 = .ok (.invokestatic 124, 3) := dk_184 0 124 (dk_at dksX6_letters_3 4 rfl rfl)
theorem dX6_letters_79 : decode cX6_letters 79 = .ok (.invokestatic 74, 3) := dk_184 0 74 (dk_at dksX6_letters_3 7 rfl rfl)
theorem dX6_letters_82 : decode cX6_letters 82 = .ok (.ifCond .ne 7, 3) := dk_154 0 7 (dk_at dksX6_letters_3 10 rfl rfl)
theorem dX6_letters_85 : decode cX6_letters 85 = .ok (.iconst 1, 1) := dk_4 (dk_at dksX6_letters_3 13 rfl rfl)
theorem dX6_letters_86 : decode cX6_letters 86 = .ok (.goto 4, 3) := dk_167 0 4 (dk_at dksX6_letters_3 14 rfl rfl)
theorem dX6_letters_89 : decode cX6_letters 89 = .ok (.iconst 0, 1) := dk_3 (dk_at dksX6_letters_3 17 rfl rfl)
theorem dX6_letters_90 : decode cX6_letters 90 = .ok (.istore_n 3, 1) := dk_62 (dk_at dksX6_letters_3 18 rfl rfl)
theorem dX6_letters_91 : decode cX6_letters 91 = .ok (.iload_n 2, 1) := dk_28 (dk_at dksX6_letters_3 19 rfl rfl)
theorem dX6_letters_92 : decode cX6_letters 92 = .ok (.iload_n 3, 1) := dk_29 (dk_at dksX6_letters_3 20 rfl rfl)
theorem dX6_letters_93 : decode cX6_letters 93 = .ok (.ifCond .eq 10, 3) := dk_153 0 10 (dk_at dksX6_letters_3 21 rfl rfl)
theorem dX6_letters_96 : decode cX6_letters 96 = .ok (.iconst 1, 1) := dk_4 (dk_at dksX6_letters_4 0 rfl rfl)
theorem dX6_letters_97 : decode cX6_letters 97 = .ok (.iload 4, 2) := dk_21 4 (dk_at dksX6_letters_4 1 rfl rfl)
theorem dX6_letters_99 : decode cX6_letters 99 = .ok (.ishl, 1) := dk_120 (dk_at dksX6_letters_4 3 rfl rfl)
theorem dX6_letters_100 : decode cX6_letters 100 = .ok (.goto 4, 3) := dk_167 0 4 (dk_at dksX6_letters_4 4 rfl rfl)
theorem dX6_letters_103 : decode cX6_letters 103 = .ok (.iconst 0, 1) := dk_3 (dk_at dksX6_letters_4 7 rfl rfl)
theorem dX6_letters_104 : decode cX6_letters 104 = .ok (.ior, 1) := dk_128 (dk_at dksX6_letters_4 8 rfl rfl)
theorem dX6_letters_105 : decode cX6_letters 105 = .ok (.istore_n 2, 1) := dk_61 (dk_at dksX6_letters_4 9 rfl rfl)
theorem dX6_letters_106 : decode cX6_letters 106 = .ok (.aload_n 0, 1) := dk_42 (dk_at dksX6_letters_4 10 rfl rfl)
theorem dX6_letters_107 : decode cX6_letters 107 = .ok (.dup, 1) := dk_89 (dk_at dksX6_letters_4 11 rfl rfl)
theorem dX6_letters_108 : decode cX6_letters 108 = .ok (.getfield 87, 3) := dk_180 0 87 (dk_at dksX6_letters_4 12 rfl rfl)
theorem dX6_letters_111 : decode cX6_letters 111 = .ok (.iconst 1, 1) := dk_4 (dk_at dksX6_letters_4 15 rfl rfl)
theorem dX6_letters_112 : decode cX6_letters 112 = .ok (.iadd, 1) := dk_96 (dk_at dksX6_letters_4 16 rfl rfl)
theorem dX6_letters_113 : decode cX6_letters 113 = .ok (.putfield 87, 3) := dk_181 0 87 (dk_at dksX6_letters_4 17 rfl rfl)
theorem dX6_letters_116 : decode cX6_letters 116 = .ok (.goto (-97), 3) := dk_167 255 159 (dk_at dksX6_letters_4 20 rfl rfl)
theorem dX6_letters_119 : decode cX6_letters 119 = .ok (.aload_n 0, 1) := dk_42 (dk_at dksX6_letters_4 23 rfl rfl)
theorem dX6_letters_120 : decode cX6_letters 120 = .ok (.getfield 87, 3) := dk_180 0 87 (dk_at dksX6_letters_5 0 rfl rfl)
theorem dX6_letters_123 : decode cX6_letters 123 = .ok (.iload_n 1, 1) := dk_27 (dk_at dksX6_letters_5 3 rfl rfl)
theorem dX6_letters_124 : decode cX6_letters 124 = .ok (.if_icmp .eq 7, 3) := dk_159 0 7 (dk_at dksX6_letters_5 4 rfl rfl)
theorem dX6_letters_127 : decode cX6_letters 127 = .ok (.iload_n 3, 1) := dk_29 (dk_at dksX6_letters_5 7 rfl rfl)
theorem dX6_letters_128 : decode cX6_letters 128 = .ok (.ifCond .ne 8, 3) := dk_154 0 8 (dk_at dksX6_letters_5 8 rfl rfl)
theorem dX6_letters_131 : decode cX6_letters 131 = .ok (.aload_n 0, 1) := dk_42 (dk_at dksX6_letters_5 11 rfl rfl)
theorem dX6_letters_132 : decode cX6_letters 132 = .ok (.iload_n 1, 1) := dk_27 (dk_at dksX6_letters_5 12 rfl rfl)
theorem dX6_letters_133 : decode cX6_letters 133 = .ok (.invokevirtual 113, 3) := dk_182 0 113 (dk_at dksX6_letters_5 13 rfl rfl)
theorem dX6_letters_136 : decode cX6_letters 136 = .ok (.iload_n 2, 1) := dk_28 (dk_at dksX6_letters_5 16 rfl rfl)
theorem dX6_letters_137 : decode cX6_letters 137 = .ok (.ireturn, 1) := dk_172 (dk_at dksX6_letters_5 17 rfl rfl)
abbrev cX6_lesser : ByteArray := prog_19_method_4_code
def yX6_lesser : MethodName := ⟨RX6, "lesser", "(II)I"⟩
def dkwX6_lesser_0 : List UInt8 := [26, 27, 162, 0, 7, 26, 167, 0, 4, 27, 172]
abbrev dktX6_lesser_0 : List UInt8 := dkwX6_lesser_0 ++ []
theorem dksX6_lesser_0 : cX6_lesser.data.toList.drop 0 = dktX6_lesser_0 := by decide +kernel
theorem dX6_lesser_0 : decode cX6_lesser 0 = .ok (.iload_n 0, 1) := dk_26 (dk_at dksX6_lesser_0 0 rfl rfl)
theorem dX6_lesser_1 : decode cX6_lesser 1 = .ok (.iload_n 1, 1) := dk_27 (dk_at dksX6_lesser_0 1 rfl rfl)
theorem dX6_lesser_2 : decode cX6_lesser 2 = .ok (.if_icmp .ge 7, 3) := dk_162 0 7 (dk_at dksX6_lesser_0 2 rfl rfl)
theorem dX6_lesser_5 : decode cX6_lesser 5 = .ok (.iload_n 0, 1) := dk_26 (dk_at dksX6_lesser_0 5 rfl rfl)
theorem dX6_lesser_6 : decode cX6_lesser 6 = .ok (.goto 4, 3) := dk_167 0 4 (dk_at dksX6_lesser_0 6 rfl rfl)
theorem dX6_lesser_9 : decode cX6_lesser 9 = .ok (.iload_n 1, 1) := dk_27 (dk_at dksX6_lesser_0 9 rfl rfl)
theorem dX6_lesser_10 : decode cX6_lesser 10 = .ok (.ireturn, 1) := dk_172 (dk_at dksX6_lesser_0 10 rfl rfl)
abbrev cX6_isOf : ByteArray := prog_19_method_6_code
def yX6_isOf : MethodName := ⟨RX6, "isOf", "(II)Z"⟩
def dkwX6_isOf_0 : List UInt8 := [26, 27, 122, 4, 126, 4, 160, 0, 7, 4, 167, 0, 4, 3, 172]
abbrev dktX6_isOf_0 : List UInt8 := dkwX6_isOf_0 ++ []
theorem dksX6_isOf_0 : cX6_isOf.data.toList.drop 0 = dktX6_isOf_0 := by decide +kernel
theorem dX6_isOf_0 : decode cX6_isOf 0 = .ok (.iload_n 0, 1) := dk_26 (dk_at dksX6_isOf_0 0 rfl rfl)
theorem dX6_isOf_1 : decode cX6_isOf 1 = .ok (.iload_n 1, 1) := dk_27 (dk_at dksX6_isOf_0 1 rfl rfl)
theorem dX6_isOf_2 : decode cX6_isOf 2 = .ok (.ishr, 1) := dk_122 (dk_at dksX6_isOf_0 2 rfl rfl)
theorem dX6_isOf_3 : decode cX6_isOf 3 = .ok (.iconst 1, 1) := dk_4 (dk_at dksX6_isOf_0 3 rfl rfl)
theorem dX6_isOf_4 : decode cX6_isOf 4 = .ok (.iand, 1) := dk_126 (dk_at dksX6_isOf_0 4 rfl rfl)
theorem dX6_isOf_5 : decode cX6_isOf 5 = .ok (.iconst 1, 1) := dk_4 (dk_at dksX6_isOf_0 5 rfl rfl)
theorem dX6_isOf_6 : decode cX6_isOf 6 = .ok (.if_icmp .ne 7, 3) := dk_160 0 7 (dk_at dksX6_isOf_0 6 rfl rfl)
theorem dX6_isOf_9 : decode cX6_isOf 9 = .ok (.iconst 1, 1) := dk_4 (dk_at dksX6_isOf_0 9 rfl rfl)
theorem dX6_isOf_10 : decode cX6_isOf 10 = .ok (.goto 4, 3) := dk_167 0 4 (dk_at dksX6_isOf_0 10 rfl rfl)
theorem dX6_isOf_13 : decode cX6_isOf 13 = .ok (.iconst 0, 1) := dk_3 (dk_at dksX6_isOf_0 13 rfl rfl)
theorem dX6_isOf_14 : decode cX6_isOf 14 = .ok (.ireturn, 1) := dk_172 (dk_at dksX6_isOf_0 14 rfl rfl)
abbrev cX6_ranksLine : ByteArray := prog_19_method_34_code
def yX6_ranksLine : MethodName := ⟨RX6, "ranksLine", "(III)V"⟩
def dkwX6_ranksLine_5 : List UInt8 := [16, 48, 100, 79, 132, 7, 1, 167, 255, 219, 42, 21, 5, 21, 6, 96, 181, 0, 87, 177]
abbrev dktX6_ranksLine_5 : List UInt8 := dkwX6_ranksLine_5 ++ []
def dkwX6_ranksLine_4 : List UInt8 := [42, 180, 0, 7, 27, 16, 8, 21, 4, 104, 96, 21, 7, 96, 42, 21, 5, 21, 7, 96, 182, 0, 93]
abbrev dktX6_ranksLine_4 : List UInt8 := dkwX6_ranksLine_4 ++ dktX6_ranksLine_5
def dkwX6_ranksLine_3 : List UInt8 := [21, 5, 182, 0, 113, 42, 180, 0, 25, 2, 159, 0, 4, 177, 3, 54, 7, 21, 7, 21, 6, 162, 0, 36]
abbrev dktX6_ranksLine_3 : List UInt8 := dkwX6_ranksLine_3 ++ dktX6_ranksLine_4
def dkwX6_ranksLine_2 : List UInt8 := [16, 48, 16, 57, 184, 0, 57, 153, 0, 9, 132, 6, 1, 167, 255, 214, 21, 6, 29, 159, 0, 9, 42]
abbrev dktX6_ranksLine_2 : List UInt8 := dkwX6_ranksLine_2 ++ dktX6_ranksLine_3
def dkwX6_ranksLine_1 : List UInt8 := [160, 0, 40, 21, 5, 21, 6, 96, 42, 180, 0, 90, 162, 0, 28, 42, 21, 5, 21, 6, 96, 182, 0, 93]
abbrev dktX6_ranksLine_1 : List UInt8 := dkwX6_ranksLine_1 ++ dktX6_ranksLine_2
def dkwX6_ranksLine_0 : List UInt8 := [42, 3, 28, 4, 100, 182, 0, 121, 54, 4, 42, 182, 0, 110, 54, 5, 3, 54, 6, 42, 180, 0, 25, 2]
abbrev dktX6_ranksLine_0 : List UInt8 := dkwX6_ranksLine_0 ++ dktX6_ranksLine_1
theorem dksX6_ranksLine_0 : cX6_ranksLine.data.toList.drop 0 = dktX6_ranksLine_0 := by decide +kernel
theorem dksX6_ranksLine_1 : cX6_ranksLine.data.toList.drop 24 = dktX6_ranksLine_1 := dk_seg dksX6_ranksLine_0 24 rfl rfl
theorem dksX6_ranksLine_2 : cX6_ranksLine.data.toList.drop 48 = dktX6_ranksLine_2 := dk_seg dksX6_ranksLine_1 24 rfl rfl
theorem dksX6_ranksLine_3 : cX6_ranksLine.data.toList.drop 71 = dktX6_ranksLine_3 := dk_seg dksX6_ranksLine_2 23 rfl rfl
theorem dksX6_ranksLine_4 : cX6_ranksLine.data.toList.drop 95 = dktX6_ranksLine_4 := dk_seg dksX6_ranksLine_3 24 rfl rfl
theorem dksX6_ranksLine_5 : cX6_ranksLine.data.toList.drop 118 = dktX6_ranksLine_5 := dk_seg dksX6_ranksLine_4 23 rfl rfl
theorem dX6_ranksLine_0 : decode cX6_ranksLine 0 = .ok (.aload_n 0, 1) := dk_42 (dk_at dksX6_ranksLine_0 0 rfl rfl)
theorem dX6_ranksLine_1 : decode cX6_ranksLine 1 = .ok (.iconst 0, 1) := dk_3 (dk_at dksX6_ranksLine_0 1 rfl rfl)
theorem dX6_ranksLine_2 : decode cX6_ranksLine 2 = .ok (.iload_n 2, 1) := dk_28 (dk_at dksX6_ranksLine_0 2 rfl rfl)
theorem dX6_ranksLine_3 : decode cX6_ranksLine 3 = .ok (.iconst 1, 1) := dk_4 (dk_at dksX6_ranksLine_0 3 rfl rfl)
theorem dX6_ranksLine_4 : decode cX6_ranksLine 4 = .ok (.isub, 1) := dk_100 (dk_at dksX6_ranksLine_0 4 rfl rfl)
theorem dX6_ranksLine_5 : decode cX6_ranksLine 5 = .ok (.invokevirtual 121, 3) := dk_182 0 121 (dk_at dksX6_ranksLine_0 5 rfl rfl)
theorem dX6_ranksLine_8 : decode cX6_ranksLine 8 = .ok (.istore 4, 2) := dk_54 4 (dk_at dksX6_ranksLine_0 8 rfl rfl)
theorem dX6_ranksLine_10 : decode cX6_ranksLine 10 = .ok (.aload_n 0, 1) := dk_42 (dk_at dksX6_ranksLine_0 10 rfl rfl)
theorem dX6_ranksLine_11 : decode cX6_ranksLine 11 = .ok (.invokevirtual 110, 3) := dk_182 0 110 (dk_at dksX6_ranksLine_0 11 rfl rfl)
theorem dX6_ranksLine_14 : decode cX6_ranksLine 14 = .ok (.istore 5, 2) := dk_54 5 (dk_at dksX6_ranksLine_0 14 rfl rfl)
theorem dX6_ranksLine_16 : decode cX6_ranksLine 16 = .ok (.iconst 0, 1) := dk_3 (dk_at dksX6_ranksLine_0 16 rfl rfl)
theorem dX6_ranksLine_17 : decode cX6_ranksLine 17 = .ok (.istore 6, 2) := dk_54 6 (dk_at dksX6_ranksLine_0 17 rfl rfl)
theorem dX6_ranksLine_19 : decode cX6_ranksLine 19 = .ok (.aload_n 0, 1) := dk_42 (dk_at dksX6_ranksLine_0 19 rfl rfl)
theorem dX6_ranksLine_20 : decode cX6_ranksLine 20 = .ok (.getfield 25, 3) := dk_180 0 25 (dk_at dksX6_ranksLine_0 20 rfl rfl)
theorem dX6_ranksLine_23 : decode cX6_ranksLine 23 = .ok (.iconst (-1), 1) := dk_2 (dk_at dksX6_ranksLine_0 23 rfl rfl)
theorem dX6_ranksLine_24 : decode cX6_ranksLine 24 = .ok (.if_icmp .ne 40, 3) := dk_160 0 40 (dk_at dksX6_ranksLine_1 0 rfl rfl)
theorem dX6_ranksLine_27 : decode cX6_ranksLine 27 = .ok (.iload 5, 2) := dk_21 5 (dk_at dksX6_ranksLine_1 3 rfl rfl)
theorem dX6_ranksLine_29 : decode cX6_ranksLine 29 = .ok (.iload 6, 2) := dk_21 6 (dk_at dksX6_ranksLine_1 5 rfl rfl)
theorem dX6_ranksLine_31 : decode cX6_ranksLine 31 = .ok (.iadd, 1) := dk_96 (dk_at dksX6_ranksLine_1 7 rfl rfl)
theorem dX6_ranksLine_32 : decode cX6_ranksLine 32 = .ok (.aload_n 0, 1) := dk_42 (dk_at dksX6_ranksLine_1 8 rfl rfl)
theorem dX6_ranksLine_33 : decode cX6_ranksLine 33 = .ok (.getfield 90, 3) := dk_180 0 90 (dk_at dksX6_ranksLine_1 9 rfl rfl)
theorem dX6_ranksLine_36 : decode cX6_ranksLine 36 = .ok (.if_icmp .ge 28, 3) := dk_162 0 28 (dk_at dksX6_ranksLine_1 12 rfl rfl)
theorem dX6_ranksLine_39 : decode cX6_ranksLine 39 = .ok (.aload_n 0, 1) := dk_42 (dk_at dksX6_ranksLine_1 15 rfl rfl)
theorem dX6_ranksLine_40 : decode cX6_ranksLine 40 = .ok (.iload 5, 2) := dk_21 5 (dk_at dksX6_ranksLine_1 16 rfl rfl)
theorem dX6_ranksLine_42 : decode cX6_ranksLine 42 = .ok (.iload 6, 2) := dk_21 6 (dk_at dksX6_ranksLine_1 18 rfl rfl)
theorem dX6_ranksLine_44 : decode cX6_ranksLine 44 = .ok (.iadd, 1) := dk_96 (dk_at dksX6_ranksLine_1 20 rfl rfl)
theorem dX6_ranksLine_45 : decode cX6_ranksLine 45 = .ok (.invokevirtual 93, 3) := dk_182 0 93 (dk_at dksX6_ranksLine_1 21 rfl rfl)
theorem dX6_ranksLine_48 : decode cX6_ranksLine 48 = .ok (.bipush 48, 2) := dk_16 48 (dk_at dksX6_ranksLine_2 0 rfl rfl)
theorem dX6_ranksLine_50 : decode cX6_ranksLine 50 = .ok (.bipush 57, 2) := dk_16 57 (dk_at dksX6_ranksLine_2 2 rfl rfl)
theorem dX6_ranksLine_52 : decode cX6_ranksLine 52 = .ok (.invokestatic 57, 3) := dk_184 0 57 (dk_at dksX6_ranksLine_2 4 rfl rfl)
theorem dX6_ranksLine_55 : decode cX6_ranksLine 55 = .ok (.ifCond .eq 9, 3) := dk_153 0 9 (dk_at dksX6_ranksLine_2 7 rfl rfl)
theorem dX6_ranksLine_58 : decode cX6_ranksLine 58 = .ok (.iinc 6 1, 3) := dk_132 6 1 (dk_at dksX6_ranksLine_2 10 rfl rfl)
theorem dX6_ranksLine_61 : decode cX6_ranksLine 61 = .ok (.goto (-42), 3) := dk_167 255 214 (dk_at dksX6_ranksLine_2 13 rfl rfl)
theorem dX6_ranksLine_64 : decode cX6_ranksLine 64 = .ok (.iload 6, 2) := dk_21 6 (dk_at dksX6_ranksLine_2 16 rfl rfl)
theorem dX6_ranksLine_66 : decode cX6_ranksLine 66 = .ok (.iload_n 3, 1) := dk_29 (dk_at dksX6_ranksLine_2 18 rfl rfl)
theorem dX6_ranksLine_67 : decode cX6_ranksLine 67 = .ok (.if_icmp .eq 9, 3) := dk_159 0 9 (dk_at dksX6_ranksLine_2 19 rfl rfl)
theorem dX6_ranksLine_70 : decode cX6_ranksLine 70 = .ok (.aload_n 0, 1) := dk_42 (dk_at dksX6_ranksLine_2 22 rfl rfl)
theorem dX6_ranksLine_71 : decode cX6_ranksLine 71 = .ok (.iload 5, 2) := dk_21 5 (dk_at dksX6_ranksLine_3 0 rfl rfl)
theorem dX6_ranksLine_73 : decode cX6_ranksLine 73 = .ok (.invokevirtual 113, 3) := dk_182 0 113 (dk_at dksX6_ranksLine_3 2 rfl rfl)
theorem dX6_ranksLine_76 : decode cX6_ranksLine 76 = .ok (.aload_n 0, 1) := dk_42 (dk_at dksX6_ranksLine_3 5 rfl rfl)
theorem dX6_ranksLine_77 : decode cX6_ranksLine 77 = .ok (.getfield 25, 3) := dk_180 0 25 (dk_at dksX6_ranksLine_3 6 rfl rfl)
theorem dX6_ranksLine_80 : decode cX6_ranksLine 80 = .ok (.iconst (-1), 1) := dk_2 (dk_at dksX6_ranksLine_3 9 rfl rfl)
theorem dX6_ranksLine_81 : decode cX6_ranksLine 81 = .ok (.if_icmp .eq 4, 3) := dk_159 0 4 (dk_at dksX6_ranksLine_3 10 rfl rfl)
theorem dX6_ranksLine_84 : decode cX6_ranksLine 84 = .ok (.return_, 1) := dk_177 (dk_at dksX6_ranksLine_3 13 rfl rfl)
theorem dX6_ranksLine_85 : decode cX6_ranksLine 85 = .ok (.iconst 0, 1) := dk_3 (dk_at dksX6_ranksLine_3 14 rfl rfl)
theorem dX6_ranksLine_86 : decode cX6_ranksLine 86 = .ok (.istore 7, 2) := dk_54 7 (dk_at dksX6_ranksLine_3 15 rfl rfl)
theorem dX6_ranksLine_88 : decode cX6_ranksLine 88 = .ok (.iload 7, 2) := dk_21 7 (dk_at dksX6_ranksLine_3 17 rfl rfl)
theorem dX6_ranksLine_90 : decode cX6_ranksLine 90 = .ok (.iload 6, 2) := dk_21 6 (dk_at dksX6_ranksLine_3 19 rfl rfl)
theorem dX6_ranksLine_92 : decode cX6_ranksLine 92 = .ok (.if_icmp .ge 36, 3) := dk_162 0 36 (dk_at dksX6_ranksLine_3 21 rfl rfl)
theorem dX6_ranksLine_95 : decode cX6_ranksLine 95 = .ok (.aload_n 0, 1) := dk_42 (dk_at dksX6_ranksLine_4 0 rfl rfl)
theorem dX6_ranksLine_96 : decode cX6_ranksLine 96 = .ok (.getfield 7, 3) := dk_180 0 7 (dk_at dksX6_ranksLine_4 1 rfl rfl)
theorem dX6_ranksLine_99 : decode cX6_ranksLine 99 = .ok (.iload_n 1, 1) := dk_27 (dk_at dksX6_ranksLine_4 4 rfl rfl)
theorem dX6_ranksLine_100 : decode cX6_ranksLine 100 = .ok (.bipush 8, 2) := dk_16 8 (dk_at dksX6_ranksLine_4 5 rfl rfl)
theorem dX6_ranksLine_102 : decode cX6_ranksLine 102 = .ok (.iload 4, 2) := dk_21 4 (dk_at dksX6_ranksLine_4 7 rfl rfl)
theorem dX6_ranksLine_104 : decode cX6_ranksLine 104 = .ok (.imul, 1) := dk_104 (dk_at dksX6_ranksLine_4 9 rfl rfl)
theorem dX6_ranksLine_105 : decode cX6_ranksLine 105 = .ok (.iadd, 1) := dk_96 (dk_at dksX6_ranksLine_4 10 rfl rfl)
theorem dX6_ranksLine_106 : decode cX6_ranksLine 106 = .ok (.iload 7, 2) := dk_21 7 (dk_at dksX6_ranksLine_4 11 rfl rfl)
theorem dX6_ranksLine_108 : decode cX6_ranksLine 108 = .ok (.iadd, 1) := dk_96 (dk_at dksX6_ranksLine_4 13 rfl rfl)
theorem dX6_ranksLine_109 : decode cX6_ranksLine 109 = .ok (.aload_n 0, 1) := dk_42 (dk_at dksX6_ranksLine_4 14 rfl rfl)
theorem dX6_ranksLine_110 : decode cX6_ranksLine 110 = .ok (.iload 5, 2) := dk_21 5 (dk_at dksX6_ranksLine_4 15 rfl rfl)
theorem dX6_ranksLine_112 : decode cX6_ranksLine 112 = .ok (.iload 7, 2) := dk_21 7 (dk_at dksX6_ranksLine_4 17 rfl rfl)
theorem dX6_ranksLine_114 : decode cX6_ranksLine 114 = .ok (.iadd, 1) := dk_96 (dk_at dksX6_ranksLine_4 19 rfl rfl)
theorem dX6_ranksLine_115 : decode cX6_ranksLine 115 = .ok (.invokevirtual 93, 3) := dk_182 0 93 (dk_at dksX6_ranksLine_4 20 rfl rfl)
theorem dX6_ranksLine_118 : decode cX6_ranksLine 118 = .ok (.bipush 48, 2) := dk_16 48 (dk_at dksX6_ranksLine_5 0 rfl rfl)
theorem dX6_ranksLine_120 : decode cX6_ranksLine 120 = .ok (.isub, 1) := dk_100 (dk_at dksX6_ranksLine_5 2 rfl rfl)
theorem dX6_ranksLine_121 : decode cX6_ranksLine 121 = .ok (.iastore, 1) := dk_79 (dk_at dksX6_ranksLine_5 3 rfl rfl)
theorem dX6_ranksLine_122 : decode cX6_ranksLine 122 = .ok (.iinc 7 1, 3) := dk_132 7 1 (dk_at dksX6_ranksLine_5 4 rfl rfl)
theorem dX6_ranksLine_125 : decode cX6_ranksLine 125 = .ok (.goto (-37), 3) := dk_167 255 219 (dk_at dksX6_ranksLine_5 7 rfl rfl)
theorem dX6_ranksLine_128 : decode cX6_ranksLine 128 = .ok (.aload_n 0, 1) := dk_42 (dk_at dksX6_ranksLine_5 10 rfl rfl)
theorem dX6_ranksLine_129 : decode cX6_ranksLine 129 = .ok (.iload 5, 2) := dk_21 5 (dk_at dksX6_ranksLine_5 11 rfl rfl)
theorem dX6_ranksLine_131 : decode cX6_ranksLine 131 = .ok (.iload 6, 2) := dk_21 6 (dk_at dksX6_ranksLine_5 13 rfl rfl)
theorem dX6_ranksLine_133 : decode cX6_ranksLine 133 = .ok (.iadd, 1) := dk_96 (dk_at dksX6_ranksLine_5 15 rfl rfl)
theorem dX6_ranksLine_134 : decode cX6_ranksLine 134 = .ok (.putfield 87, 3) := dk_181 0 87 (dk_at dksX6_ranksLine_5 16 rfl rfl)
theorem dX6_ranksLine_137 : decode cX6_ranksLine 137 = .ok (.return_, 1) := dk_177 (dk_at dksX6_ranksLine_5 19 rfl rfl)
abbrev cX6_tells : ByteArray := prog_19_method_35_code
def yX6_tells : MethodName := ⟨RX6, "tells", "(III)V"⟩
def dkwX6_tells_1 : List UInt8 := [177]
abbrev dktX6_tells_1 : List UInt8 := dkwX6_tells_1 ++ []
def dkwX6_tells_0 : List UInt8 := [42, 28, 29, 182, 0, 121, 54, 4, 42, 180, 0, 25, 2, 160, 0, 11, 42, 180, 0, 7, 27, 21, 4, 79]
abbrev dktX6_tells_0 : List UInt8 := dkwX6_tells_0 ++ dktX6_tells_1
theorem dksX6_tells_0 : cX6_tells.data.toList.drop 0 = dktX6_tells_0 := by decide +kernel
theorem dksX6_tells_1 : cX6_tells.data.toList.drop 24 = dktX6_tells_1 := dk_seg dksX6_tells_0 24 rfl rfl
theorem dX6_tells_0 : decode cX6_tells 0 = .ok (.aload_n 0, 1) := dk_42 (dk_at dksX6_tells_0 0 rfl rfl)
theorem dX6_tells_1 : decode cX6_tells 1 = .ok (.iload_n 2, 1) := dk_28 (dk_at dksX6_tells_0 1 rfl rfl)
theorem dX6_tells_2 : decode cX6_tells 2 = .ok (.iload_n 3, 1) := dk_29 (dk_at dksX6_tells_0 2 rfl rfl)
theorem dX6_tells_3 : decode cX6_tells 3 = .ok (.invokevirtual 121, 3) := dk_182 0 121 (dk_at dksX6_tells_0 3 rfl rfl)
theorem dX6_tells_6 : decode cX6_tells 6 = .ok (.istore 4, 2) := dk_54 4 (dk_at dksX6_tells_0 6 rfl rfl)
theorem dX6_tells_8 : decode cX6_tells 8 = .ok (.aload_n 0, 1) := dk_42 (dk_at dksX6_tells_0 8 rfl rfl)
theorem dX6_tells_9 : decode cX6_tells 9 = .ok (.getfield 25, 3) := dk_180 0 25 (dk_at dksX6_tells_0 9 rfl rfl)
theorem dX6_tells_12 : decode cX6_tells 12 = .ok (.iconst (-1), 1) := dk_2 (dk_at dksX6_tells_0 12 rfl rfl)
theorem dX6_tells_13 : decode cX6_tells 13 = .ok (.if_icmp .ne 11, 3) := dk_160 0 11 (dk_at dksX6_tells_0 13 rfl rfl)
theorem dX6_tells_16 : decode cX6_tells 16 = .ok (.aload_n 0, 1) := dk_42 (dk_at dksX6_tells_0 16 rfl rfl)
theorem dX6_tells_17 : decode cX6_tells 17 = .ok (.getfield 7, 3) := dk_180 0 7 (dk_at dksX6_tells_0 17 rfl rfl)
theorem dX6_tells_20 : decode cX6_tells 20 = .ok (.iload_n 1, 1) := dk_27 (dk_at dksX6_tells_0 20 rfl rfl)
theorem dX6_tells_21 : decode cX6_tells 21 = .ok (.iload 4, 2) := dk_21 4 (dk_at dksX6_tells_0 21 rfl rfl)
theorem dX6_tells_23 : decode cX6_tells 23 = .ok (.iastore, 1) := dk_79 (dk_at dksX6_tells_0 23 rfl rfl)
theorem dX6_tells_24 : decode cX6_tells 24 = .ok (.return_, 1) := dk_177 (dk_at dksX6_tells_1 0 rfl rfl)
abbrev cX6_comesBack : ByteArray := prog_19_method_40_code
def yX6_comesBack : MethodName := ⟨RX6, "comesBack", "()V"⟩
def dkwX6_comesBack_1 : List UInt8 := [167, 255, 234, 177]
abbrev dktX6_comesBack_1 : List UInt8 := dkwX6_comesBack_1 ++ []
def dkwX6_comesBack_0 : List UInt8 := [3, 60, 27, 17, 2, 107, 162, 0, 21, 42, 180, 0, 7, 27, 42, 180, 0, 16, 27, 46, 79, 132, 1, 1]
abbrev dktX6_comesBack_0 : List UInt8 := dkwX6_comesBack_0 ++ dktX6_comesBack_1
theorem dksX6_comesBack_0 : cX6_comesBack.data.toList.drop 0 = dktX6_comesBack_0 := by decide +kernel
theorem dksX6_comesBack_1 : cX6_comesBack.data.toList.drop 24 = dktX6_comesBack_1 := dk_seg dksX6_comesBack_0 24 rfl rfl
theorem dX6_comesBack_0 : decode cX6_comesBack 0 = .ok (.iconst 0, 1) := dk_3 (dk_at dksX6_comesBack_0 0 rfl rfl)
theorem dX6_comesBack_1 : decode cX6_comesBack 1 = .ok (.istore_n 1, 1) := dk_60 (dk_at dksX6_comesBack_0 1 rfl rfl)
theorem dX6_comesBack_2 : decode cX6_comesBack 2 = .ok (.iload_n 1, 1) := dk_27 (dk_at dksX6_comesBack_0 2 rfl rfl)
theorem dX6_comesBack_3 : decode cX6_comesBack 3 = .ok (.sipush 619, 3) := dk_17 2 107 (dk_at dksX6_comesBack_0 3 rfl rfl)
theorem dX6_comesBack_6 : decode cX6_comesBack 6 = .ok (.if_icmp .ge 21, 3) := dk_162 0 21 (dk_at dksX6_comesBack_0 6 rfl rfl)
theorem dX6_comesBack_9 : decode cX6_comesBack 9 = .ok (.aload_n 0, 1) := dk_42 (dk_at dksX6_comesBack_0 9 rfl rfl)
theorem dX6_comesBack_10 : decode cX6_comesBack 10 = .ok (.getfield 7, 3) := dk_180 0 7 (dk_at dksX6_comesBack_0 10 rfl rfl)
theorem dX6_comesBack_13 : decode cX6_comesBack 13 = .ok (.iload_n 1, 1) := dk_27 (dk_at dksX6_comesBack_0 13 rfl rfl)
theorem dX6_comesBack_14 : decode cX6_comesBack 14 = .ok (.aload_n 0, 1) := dk_42 (dk_at dksX6_comesBack_0 14 rfl rfl)
theorem dX6_comesBack_15 : decode cX6_comesBack 15 = .ok (.getfield 16, 3) := dk_180 0 16 (dk_at dksX6_comesBack_0 15 rfl rfl)
theorem dX6_comesBack_18 : decode cX6_comesBack 18 = .ok (.iload_n 1, 1) := dk_27 (dk_at dksX6_comesBack_0 18 rfl rfl)
theorem dX6_comesBack_19 : decode cX6_comesBack 19 = .ok (.iaload, 1) := dk_46 (dk_at dksX6_comesBack_0 19 rfl rfl)
theorem dX6_comesBack_20 : decode cX6_comesBack 20 = .ok (.iastore, 1) := dk_79 (dk_at dksX6_comesBack_0 20 rfl rfl)
theorem dX6_comesBack_21 : decode cX6_comesBack 21 = .ok (.iinc 1 1, 3) := dk_132 1 1 (dk_at dksX6_comesBack_0 21 rfl rfl)
theorem dX6_comesBack_24 : decode cX6_comesBack 24 = .ok (.goto (-22), 3) := dk_167 255 234 (dk_at dksX6_comesBack_1 0 rfl rfl)
theorem dX6_comesBack_27 : decode cX6_comesBack 27 = .ok (.return_, 1) := dk_177 (dk_at dksX6_comesBack_1 3 rfl rfl)
abbrev cX6_law : ByteArray := prog_19_method_49_code
def yX6_law : MethodName := ⟨RX6, "law", "()I"⟩
def dkwX6_law_3 : List UInt8 := [42, 180, 0, 22, 28, 46, 79, 132, 2, 1, 167, 255, 229, 42, 3, 181, 0, 205, 27, 172]
abbrev dktX6_law_3 : List UInt8 := dkwX6_law_3 ++ []
def dkwX6_law_2 : List UInt8 := [42, 180, 0, 90, 79, 3, 61, 28, 42, 180, 0, 90, 162, 0, 25, 42, 180, 0, 7, 17, 2, 107, 28, 96]
abbrev dktX6_law_2 : List UInt8 := dkwX6_law_2 ++ dktX6_law_3
def dkwX6_law_1 : List UInt8 := [181, 0, 54, 42, 180, 0, 54, 158, 0, 5, 3, 172, 42, 180, 0, 7, 4, 27, 79, 42, 180, 0, 7, 5]
abbrev dktX6_law_1 : List UInt8 := dkwX6_law_1 ++ dktX6_law_2
def dkwX6_law_0 : List UInt8 := [42, 182, 0, 195, 42, 4, 182, 0, 198, 60, 42, 42, 180, 0, 25, 2, 159, 0, 7, 4, 167, 0, 4, 3]
abbrev dktX6_law_0 : List UInt8 := dkwX6_law_0 ++ dktX6_law_1
theorem dksX6_law_0 : cX6_law.data.toList.drop 0 = dktX6_law_0 := by decide +kernel
theorem dksX6_law_1 : cX6_law.data.toList.drop 24 = dktX6_law_1 := dk_seg dksX6_law_0 24 rfl rfl
theorem dksX6_law_2 : cX6_law.data.toList.drop 48 = dktX6_law_2 := dk_seg dksX6_law_1 24 rfl rfl
theorem dksX6_law_3 : cX6_law.data.toList.drop 72 = dktX6_law_3 := dk_seg dksX6_law_2 24 rfl rfl
theorem dX6_law_0 : decode cX6_law 0 = .ok (.aload_n 0, 1) := dk_42 (dk_at dksX6_law_0 0 rfl rfl)
theorem dX6_law_1 : decode cX6_law 1 = .ok (.invokevirtual 195, 3) := dk_182 0 195 (dk_at dksX6_law_0 1 rfl rfl)
theorem dX6_law_4 : decode cX6_law 4 = .ok (.aload_n 0, 1) := dk_42 (dk_at dksX6_law_0 4 rfl rfl)
theorem dX6_law_5 : decode cX6_law 5 = .ok (.iconst 1, 1) := dk_4 (dk_at dksX6_law_0 5 rfl rfl)
theorem dX6_law_6 : decode cX6_law 6 = .ok (.invokevirtual 198, 3) := dk_182 0 198 (dk_at dksX6_law_0 6 rfl rfl)
theorem dX6_law_9 : decode cX6_law 9 = .ok (.istore_n 1, 1) := dk_60 (dk_at dksX6_law_0 9 rfl rfl)
theorem dX6_law_10 : decode cX6_law 10 = .ok (.aload_n 0, 1) := dk_42 (dk_at dksX6_law_0 10 rfl rfl)
theorem dX6_law_11 : decode cX6_law 11 = .ok (.aload_n 0, 1) := dk_42 (dk_at dksX6_law_0 11 rfl rfl)
theorem dX6_law_12 : decode cX6_law 12 = .ok (.getfield 25, 3) := dk_180 0 25 (dk_at dksX6_law_0 12 rfl rfl)
theorem dX6_law_15 : decode cX6_law 15 = .ok (.iconst (-1), 1) := dk_2 (dk_at dksX6_law_0 15 rfl rfl)
theorem dX6_law_16 : decode cX6_law 16 = .ok (.if_icmp .eq 7, 3) := dk_159 0 7 (dk_at dksX6_law_0 16 rfl rfl)
theorem dX6_law_19 : decode cX6_law 19 = .ok (.iconst 1, 1) := dk_4 (dk_at dksX6_law_0 19 rfl rfl)
theorem dX6_law_20 : decode cX6_law 20 = .ok (.goto 4, 3) := dk_167 0 4 (dk_at dksX6_law_0 20 rfl rfl)
theorem dX6_law_23 : decode cX6_law 23 = .ok (.iconst 0, 1) := dk_3 (dk_at dksX6_law_0 23 rfl rfl)
theorem dX6_law_24 : decode cX6_law 24 = .ok (.putfield 54, 3) := dk_181 0 54 (dk_at dksX6_law_1 0 rfl rfl)
theorem dX6_law_27 : decode cX6_law 27 = .ok (.aload_n 0, 1) := dk_42 (dk_at dksX6_law_1 3 rfl rfl)
theorem dX6_law_28 : decode cX6_law 28 = .ok (.getfield 54, 3) := dk_180 0 54 (dk_at dksX6_law_1 4 rfl rfl)
theorem dX6_law_31 : decode cX6_law 31 = .ok (.ifCond .le 5, 3) := dk_158 0 5 (dk_at dksX6_law_1 7 rfl rfl)
theorem dX6_law_34 : decode cX6_law 34 = .ok (.iconst 0, 1) := dk_3 (dk_at dksX6_law_1 10 rfl rfl)
theorem dX6_law_35 : decode cX6_law 35 = .ok (.ireturn, 1) := dk_172 (dk_at dksX6_law_1 11 rfl rfl)
theorem dX6_law_36 : decode cX6_law 36 = .ok (.aload_n 0, 1) := dk_42 (dk_at dksX6_law_1 12 rfl rfl)
theorem dX6_law_37 : decode cX6_law 37 = .ok (.getfield 7, 3) := dk_180 0 7 (dk_at dksX6_law_1 13 rfl rfl)
theorem dX6_law_40 : decode cX6_law 40 = .ok (.iconst 1, 1) := dk_4 (dk_at dksX6_law_1 16 rfl rfl)
theorem dX6_law_41 : decode cX6_law 41 = .ok (.iload_n 1, 1) := dk_27 (dk_at dksX6_law_1 17 rfl rfl)
theorem dX6_law_42 : decode cX6_law 42 = .ok (.iastore, 1) := dk_79 (dk_at dksX6_law_1 18 rfl rfl)
theorem dX6_law_43 : decode cX6_law 43 = .ok (.aload_n 0, 1) := dk_42 (dk_at dksX6_law_1 19 rfl rfl)
theorem dX6_law_44 : decode cX6_law 44 = .ok (.getfield 7, 3) := dk_180 0 7 (dk_at dksX6_law_1 20 rfl rfl)
theorem dX6_law_47 : decode cX6_law 47 = .ok (.iconst 2, 1) := dk_5 (dk_at dksX6_law_1 23 rfl rfl)
theorem dX6_law_48 : decode cX6_law 48 = .ok (.aload_n 0, 1) := dk_42 (dk_at dksX6_law_2 0 rfl rfl)
theorem dX6_law_49 : decode cX6_law 49 = .ok (.getfield 90, 3) := dk_180 0 90 (dk_at dksX6_law_2 1 rfl rfl)
theorem dX6_law_52 : decode cX6_law 52 = .ok (.iastore, 1) := dk_79 (dk_at dksX6_law_2 4 rfl rfl)
theorem dX6_law_53 : decode cX6_law 53 = .ok (.iconst 0, 1) := dk_3 (dk_at dksX6_law_2 5 rfl rfl)
theorem dX6_law_54 : decode cX6_law 54 = .ok (.istore_n 2, 1) := dk_61 (dk_at dksX6_law_2 6 rfl rfl)
theorem dX6_law_55 : decode cX6_law 55 = .ok (.iload_n 2, 1) := dk_28 (dk_at dksX6_law_2 7 rfl rfl)
theorem dX6_law_56 : decode cX6_law 56 = .ok (.aload_n 0, 1) := dk_42 (dk_at dksX6_law_2 8 rfl rfl)
theorem dX6_law_57 : decode cX6_law 57 = .ok (.getfield 90, 3) := dk_180 0 90 (dk_at dksX6_law_2 9 rfl rfl)
theorem dX6_law_60 : decode cX6_law 60 = .ok (.if_icmp .ge 25, 3) := dk_162 0 25 (dk_at dksX6_law_2 12 rfl rfl)
theorem dX6_law_63 : decode cX6_law 63 = .ok (.aload_n 0, 1) := dk_42 (dk_at dksX6_law_2 15 rfl rfl)
theorem dX6_law_64 : decode cX6_law 64 = .ok (.getfield 7, 3) := dk_180 0 7 (dk_at dksX6_law_2 16 rfl rfl)
theorem dX6_law_67 : decode cX6_law 67 = .ok (.sipush 619, 3) := dk_17 2 107 (dk_at dksX6_law_2 19 rfl rfl)
theorem dX6_law_70 : decode cX6_law 70 = .ok (.iload_n 2, 1) := dk_28 (dk_at dksX6_law_2 22 rfl rfl)
theorem dX6_law_71 : decode cX6_law 71 = .ok (.iadd, 1) := dk_96 (dk_at dksX6_law_2 23 rfl rfl)
theorem dX6_law_72 : decode cX6_law 72 = .ok (.aload_n 0, 1) := dk_42 (dk_at dksX6_law_3 0 rfl rfl)
theorem dX6_law_73 : decode cX6_law 73 = .ok (.getfield 22, 3) := dk_180 0 22 (dk_at dksX6_law_3 1 rfl rfl)
theorem dX6_law_76 : decode cX6_law 76 = .ok (.iload_n 2, 1) := dk_28 (dk_at dksX6_law_3 4 rfl rfl)
theorem dX6_law_77 : decode cX6_law 77 = .ok (.iaload, 1) := dk_46 (dk_at dksX6_law_3 5 rfl rfl)
theorem dX6_law_78 : decode cX6_law 78 = .ok (.iastore, 1) := dk_79 (dk_at dksX6_law_3 6 rfl rfl)
theorem dX6_law_79 : decode cX6_law 79 = .ok (.iinc 2 1, 3) := dk_132 2 1 (dk_at dksX6_law_3 7 rfl rfl)
theorem dX6_law_82 : decode cX6_law 82 = .ok (.goto (-27), 3) := dk_167 255 229 (dk_at dksX6_law_3 10 rfl rfl)
theorem dX6_law_85 : decode cX6_law 85 = .ok (.aload_n 0, 1) := dk_42 (dk_at dksX6_law_3 13 rfl rfl)
theorem dX6_law_86 : decode cX6_law 86 = .ok (.iconst 0, 1) := dk_3 (dk_at dksX6_law_3 14 rfl rfl)
theorem dX6_law_87 : decode cX6_law 87 = .ok (.putfield 205, 3) := dk_181 0 205 (dk_at dksX6_law_3 15 rfl rfl)
theorem dX6_law_90 : decode cX6_law 90 = .ok (.iload_n 1, 1) := dk_27 (dk_at dksX6_law_3 18 rfl rfl)
theorem dX6_law_91 : decode cX6_law 91 = .ok (.ireturn, 1) := dk_172 (dk_at dksX6_law_3 19 rfl rfl)
abbrev cX6_fault : ByteArray := prog_19_method_50_code
def yX6_fault : MethodName := ⟨RX6, "fault", "()I"⟩
def dkwX6_fault_0 : List UInt8 := [42, 3, 181, 0, 54, 42, 180, 0, 25, 172]
abbrev dktX6_fault_0 : List UInt8 := dkwX6_fault_0 ++ []
theorem dksX6_fault_0 : cX6_fault.data.toList.drop 0 = dktX6_fault_0 := by decide +kernel
theorem dX6_fault_0 : decode cX6_fault 0 = .ok (.aload_n 0, 1) := dk_42 (dk_at dksX6_fault_0 0 rfl rfl)
theorem dX6_fault_1 : decode cX6_fault 1 = .ok (.iconst 0, 1) := dk_3 (dk_at dksX6_fault_0 1 rfl rfl)
theorem dX6_fault_2 : decode cX6_fault 2 = .ok (.putfield 54, 3) := dk_181 0 54 (dk_at dksX6_fault_0 2 rfl rfl)
theorem dX6_fault_5 : decode cX6_fault 5 = .ok (.aload_n 0, 1) := dk_42 (dk_at dksX6_fault_0 5 rfl rfl)
theorem dX6_fault_6 : decode cX6_fault 6 = .ok (.getfield 25, 3) := dk_180 0 25 (dk_at dksX6_fault_0 6 rfl rfl)
theorem dX6_fault_9 : decode cX6_fault 9 = .ok (.ireturn, 1) := dk_172 (dk_at dksX6_fault_0 9 rfl rfl)
abbrev cX6_host : ByteArray := prog_19_method_65_code
def yX6_host : MethodName := ⟨RX6, "host", "(II)I"⟩
def dkwX6_host_4 : List UInt8 := [42, 182, 1, 63, 108, 172]
abbrev dktX6_host_4 : List UInt8 := dkwX6_host_4 ++ []
def dkwX6_host_3 : List UInt8 := [182, 1, 60, 172, 42, 182, 1, 63, 154, 0, 7, 3, 167, 0, 17, 16, 100, 42, 27, 5, 182, 0, 68, 104]
abbrev dktX6_host_3 : List UInt8 := dkwX6_host_3 ++ dktX6_host_4
def dkwX6_host_2 : List UInt8 := [182, 0, 68, 172, 28, 7, 160, 0, 9, 42, 27, 182, 1, 57, 172, 28, 8, 160, 0, 9, 42, 27]
abbrev dktX6_host_2 : List UInt8 := dkwX6_host_2 ++ dktX6_host_3
def dkwX6_host_1 : List UInt8 := [167, 0, 4, 3, 181, 0, 54, 42, 180, 0, 54, 158, 0, 5, 3, 172, 28, 7, 162, 0, 10, 42, 27, 28]
abbrev dktX6_host_1 : List UInt8 := dkwX6_host_1 ++ dktX6_host_2
def dkwX6_host_0 : List UInt8 := [42, 42, 27, 182, 1, 54, 154, 0, 7, 4, 167, 0, 18, 28, 3, 16, 6, 184, 0, 57, 154, 0, 7, 5]
abbrev dktX6_host_0 : List UInt8 := dkwX6_host_0 ++ dktX6_host_1
theorem dksX6_host_0 : cX6_host.data.toList.drop 0 = dktX6_host_0 := by decide +kernel
theorem dksX6_host_1 : cX6_host.data.toList.drop 24 = dktX6_host_1 := dk_seg dksX6_host_0 24 rfl rfl
theorem dksX6_host_2 : cX6_host.data.toList.drop 48 = dktX6_host_2 := dk_seg dksX6_host_1 24 rfl rfl
theorem dksX6_host_3 : cX6_host.data.toList.drop 70 = dktX6_host_3 := dk_seg dksX6_host_2 22 rfl rfl
theorem dksX6_host_4 : cX6_host.data.toList.drop 94 = dktX6_host_4 := dk_seg dksX6_host_3 24 rfl rfl
theorem dX6_host_0 : decode cX6_host 0 = .ok (.aload_n 0, 1) := dk_42 (dk_at dksX6_host_0 0 rfl rfl)
theorem dX6_host_1 : decode cX6_host 1 = .ok (.aload_n 0, 1) := dk_42 (dk_at dksX6_host_0 1 rfl rfl)
theorem dX6_host_2 : decode cX6_host 2 = .ok (.iload_n 1, 1) := dk_27 (dk_at dksX6_host_0 2 rfl rfl)
theorem dX6_host_3 : decode cX6_host 3 = .ok (.invokevirtual 310, 3) := dk_182 1 54 (dk_at dksX6_host_0 3 rfl rfl)
theorem dX6_host_6 : decode cX6_host 6 = .ok (.ifCond .ne 7, 3) := dk_154 0 7 (dk_at dksX6_host_0 6 rfl rfl)
theorem dX6_host_9 : decode cX6_host 9 = .ok (.iconst 1, 1) := dk_4 (dk_at dksX6_host_0 9 rfl rfl)
theorem dX6_host_10 : decode cX6_host 10 = .ok (.goto 18, 3) := dk_167 0 18 (dk_at dksX6_host_0 10 rfl rfl)
theorem dX6_host_13 : decode cX6_host 13 = .ok (.iload_n 2, 1) := dk_28 (dk_at dksX6_host_0 13 rfl rfl)
theorem dX6_host_14 : decode cX6_host 14 = .ok (.iconst 0, 1) := dk_3 (dk_at dksX6_host_0 14 rfl rfl)
theorem dX6_host_15 : decode cX6_host 15 = .ok (.bipush 6, 2) := dk_16 6 (dk_at dksX6_host_0 15 rfl rfl)
theorem dX6_host_17 : decode cX6_host 17 = .ok (.invokestatic 57, 3) := dk_184 0 57 (dk_at dksX6_host_0 17 rfl rfl)
theorem dX6_host_20 : decode cX6_host 20 = .ok (.ifCond .ne 7, 3) := dk_154 0 7 (dk_at dksX6_host_0 20 rfl rfl)
theorem dX6_host_23 : decode cX6_host 23 = .ok (.iconst 2, 1) := dk_5 (dk_at dksX6_host_0 23 rfl rfl)
theorem dX6_host_24 : decode cX6_host 24 = .ok (.goto 4, 3) := dk_167 0 4 (dk_at dksX6_host_1 0 rfl rfl)
theorem dX6_host_27 : decode cX6_host 27 = .ok (.iconst 0, 1) := dk_3 (dk_at dksX6_host_1 3 rfl rfl)
theorem dX6_host_28 : decode cX6_host 28 = .ok (.putfield 54, 3) := dk_181 0 54 (dk_at dksX6_host_1 4 rfl rfl)
theorem dX6_host_31 : decode cX6_host 31 = .ok (.aload_n 0, 1) := dk_42 (dk_at dksX6_host_1 7 rfl rfl)
theorem dX6_host_32 : decode cX6_host 32 = .ok (.getfield 54, 3) := dk_180 0 54 (dk_at dksX6_host_1 8 rfl rfl)
theorem dX6_host_35 : decode cX6_host 35 = .ok (.ifCond .le 5, 3) := dk_158 0 5 (dk_at dksX6_host_1 11 rfl rfl)
theorem dX6_host_38 : decode cX6_host 38 = .ok (.iconst 0, 1) := dk_3 (dk_at dksX6_host_1 14 rfl rfl)
theorem dX6_host_39 : decode cX6_host 39 = .ok (.ireturn, 1) := dk_172 (dk_at dksX6_host_1 15 rfl rfl)
theorem dX6_host_40 : decode cX6_host 40 = .ok (.iload_n 2, 1) := dk_28 (dk_at dksX6_host_1 16 rfl rfl)
theorem dX6_host_41 : decode cX6_host 41 = .ok (.iconst 4, 1) := dk_7 (dk_at dksX6_host_1 17 rfl rfl)
theorem dX6_host_42 : decode cX6_host 42 = .ok (.if_icmp .ge 10, 3) := dk_162 0 10 (dk_at dksX6_host_1 18 rfl rfl)
theorem dX6_host_45 : decode cX6_host 45 = .ok (.aload_n 0, 1) := dk_42 (dk_at dksX6_host_1 21 rfl rfl)
theorem dX6_host_46 : decode cX6_host 46 = .ok (.iload_n 1, 1) := dk_27 (dk_at dksX6_host_1 22 rfl rfl)
theorem dX6_host_47 : decode cX6_host 47 = .ok (.iload_n 2, 1) := dk_28 (dk_at dksX6_host_1 23 rfl rfl)
theorem dX6_host_48 : decode cX6_host 48 = .ok (.invokevirtual 68, 3) := dk_182 0 68 (dk_at dksX6_host_2 0 rfl rfl)
theorem dX6_host_51 : decode cX6_host 51 = .ok (.ireturn, 1) := dk_172 (dk_at dksX6_host_2 3 rfl rfl)
theorem dX6_host_52 : decode cX6_host 52 = .ok (.iload_n 2, 1) := dk_28 (dk_at dksX6_host_2 4 rfl rfl)
theorem dX6_host_53 : decode cX6_host 53 = .ok (.iconst 4, 1) := dk_7 (dk_at dksX6_host_2 5 rfl rfl)
theorem dX6_host_54 : decode cX6_host 54 = .ok (.if_icmp .ne 9, 3) := dk_160 0 9 (dk_at dksX6_host_2 6 rfl rfl)
theorem dX6_host_57 : decode cX6_host 57 = .ok (.aload_n 0, 1) := dk_42 (dk_at dksX6_host_2 9 rfl rfl)
theorem dX6_host_58 : decode cX6_host 58 = .ok (.iload_n 1, 1) := dk_27 (dk_at dksX6_host_2 10 rfl rfl)
theorem dX6_host_59 : decode cX6_host 59 = .ok (.invokevirtual 313, 3) := dk_182 1 57 (dk_at dksX6_host_2 11 rfl rfl)
theorem dX6_host_62 : decode cX6_host 62 = .ok (.ireturn, 1) := dk_172 (dk_at dksX6_host_2 14 rfl rfl)
theorem dX6_host_63 : decode cX6_host 63 = .ok (.iload_n 2, 1) := dk_28 (dk_at dksX6_host_2 15 rfl rfl)
theorem dX6_host_64 : decode cX6_host 64 = .ok (.iconst 5, 1) := dk_8 (dk_at dksX6_host_2 16 rfl rfl)
theorem dX6_host_65 : decode cX6_host 65 = .ok (.if_icmp .ne 9, 3) := dk_160 0 9 (dk_at dksX6_host_2 17 rfl rfl)
theorem dX6_host_68 : decode cX6_host 68 = .ok (.aload_n 0, 1) := dk_42 (dk_at dksX6_host_2 20 rfl rfl)
theorem dX6_host_69 : decode cX6_host 69 = .ok (.iload_n 1, 1) := dk_27 (dk_at dksX6_host_2 21 rfl rfl)
theorem dX6_host_70 : decode cX6_host 70 = .ok (.invokevirtual 316, 3) := dk_182 1 60 (dk_at dksX6_host_3 0 rfl rfl)
theorem dX6_host_73 : decode cX6_host 73 = .ok (.ireturn, 1) := dk_172 (dk_at dksX6_host_3 3 rfl rfl)
theorem dX6_host_74 : decode cX6_host 74 = .ok (.aload_n 0, 1) := dk_42 (dk_at dksX6_host_3 4 rfl rfl)
theorem dX6_host_75 : decode cX6_host 75 = .ok (.invokevirtual 319, 3) := dk_182 1 63 (dk_at dksX6_host_3 5 rfl rfl)
theorem dX6_host_78 : decode cX6_host 78 = .ok (.ifCond .ne 7, 3) := dk_154 0 7 (dk_at dksX6_host_3 8 rfl rfl)
theorem dX6_host_81 : decode cX6_host 81 = .ok (.iconst 0, 1) := dk_3 (dk_at dksX6_host_3 11 rfl rfl)
theorem dX6_host_82 : decode cX6_host 82 = .ok (.goto 17, 3) := dk_167 0 17 (dk_at dksX6_host_3 12 rfl rfl)
theorem dX6_host_85 : decode cX6_host 85 = .ok (.bipush 100, 2) := dk_16 100 (dk_at dksX6_host_3 15 rfl rfl)
theorem dX6_host_87 : decode cX6_host 87 = .ok (.aload_n 0, 1) := dk_42 (dk_at dksX6_host_3 17 rfl rfl)
theorem dX6_host_88 : decode cX6_host 88 = .ok (.iload_n 1, 1) := dk_27 (dk_at dksX6_host_3 18 rfl rfl)
theorem dX6_host_89 : decode cX6_host 89 = .ok (.iconst 2, 1) := dk_5 (dk_at dksX6_host_3 19 rfl rfl)
theorem dX6_host_90 : decode cX6_host 90 = .ok (.invokevirtual 68, 3) := dk_182 0 68 (dk_at dksX6_host_3 20 rfl rfl)
theorem dX6_host_93 : decode cX6_host 93 = .ok (.imul, 1) := dk_104 (dk_at dksX6_host_3 23 rfl rfl)
theorem dX6_host_94 : decode cX6_host 94 = .ok (.aload_n 0, 1) := dk_42 (dk_at dksX6_host_4 0 rfl rfl)
theorem dX6_host_95 : decode cX6_host 95 = .ok (.invokevirtual 319, 3) := dk_182 1 63 (dk_at dksX6_host_4 1 rfl rfl)
theorem dX6_host_98 : decode cX6_host 98 = .ok (.idiv, 1) := dk_108 (dk_at dksX6_host_4 4 rfl rfl)
theorem dX6_host_99 : decode cX6_host 99 = .ok (.ireturn, 1) := dk_172 (dk_at dksX6_host_4 5 rfl rfl)
abbrev cX6_isHost : ByteArray := prog_19_method_14_code
def yX6_isHost : MethodName := ⟨RX6, "isHost", "(I)Z"⟩
def dkwX6_isHost_0 : List UInt8 := [27, 3, 42, 180, 0, 7, 6, 46, 4, 100, 184, 0, 57, 172]
abbrev dktX6_isHost_0 : List UInt8 := dkwX6_isHost_0 ++ []
theorem dksX6_isHost_0 : cX6_isHost.data.toList.drop 0 = dktX6_isHost_0 := by decide +kernel
theorem dX6_isHost_0 : decode cX6_isHost 0 = .ok (.iload_n 1, 1) := dk_27 (dk_at dksX6_isHost_0 0 rfl rfl)
theorem dX6_isHost_1 : decode cX6_isHost 1 = .ok (.iconst 0, 1) := dk_3 (dk_at dksX6_isHost_0 1 rfl rfl)
theorem dX6_isHost_2 : decode cX6_isHost 2 = .ok (.aload_n 0, 1) := dk_42 (dk_at dksX6_isHost_0 2 rfl rfl)
theorem dX6_isHost_3 : decode cX6_isHost 3 = .ok (.getfield 7, 3) := dk_180 0 7 (dk_at dksX6_isHost_0 3 rfl rfl)
theorem dX6_isHost_6 : decode cX6_isHost 6 = .ok (.iconst 3, 1) := dk_6 (dk_at dksX6_isHost_0 6 rfl rfl)
theorem dX6_isHost_7 : decode cX6_isHost 7 = .ok (.iaload, 1) := dk_46 (dk_at dksX6_isHost_0 7 rfl rfl)
theorem dX6_isHost_8 : decode cX6_isHost 8 = .ok (.iconst 1, 1) := dk_4 (dk_at dksX6_isHost_0 8 rfl rfl)
theorem dX6_isHost_9 : decode cX6_isHost 9 = .ok (.isub, 1) := dk_100 (dk_at dksX6_isHost_0 9 rfl rfl)
theorem dX6_isHost_10 : decode cX6_isHost 10 = .ok (.invokestatic 57, 3) := dk_184 0 57 (dk_at dksX6_isHost_0 10 rfl rfl)
theorem dX6_isHost_13 : decode cX6_isHost 13 = .ok (.ireturn, 1) := dk_172 (dk_at dksX6_isHost_0 13 rfl rfl)
abbrev cX6_of : ByteArray := prog_19_method_8_code
def yX6_of : MethodName := ⟨RX6, "of", "(II)I"⟩
def dkwX6_of_0 : List UInt8 := [42, 180, 0, 7, 16, 11, 7, 27, 104, 96, 28, 96, 46, 172]
abbrev dktX6_of_0 : List UInt8 := dkwX6_of_0 ++ []
theorem dksX6_of_0 : cX6_of.data.toList.drop 0 = dktX6_of_0 := by decide +kernel
theorem dX6_of_0 : decode cX6_of 0 = .ok (.aload_n 0, 1) := dk_42 (dk_at dksX6_of_0 0 rfl rfl)
theorem dX6_of_1 : decode cX6_of 1 = .ok (.getfield 7, 3) := dk_180 0 7 (dk_at dksX6_of_0 1 rfl rfl)
theorem dX6_of_4 : decode cX6_of 4 = .ok (.bipush 11, 2) := dk_16 11 (dk_at dksX6_of_0 4 rfl rfl)
theorem dX6_of_6 : decode cX6_of 6 = .ok (.iconst 4, 1) := dk_7 (dk_at dksX6_of_0 6 rfl rfl)
theorem dX6_of_7 : decode cX6_of 7 = .ok (.iload_n 1, 1) := dk_27 (dk_at dksX6_of_0 7 rfl rfl)
theorem dX6_of_8 : decode cX6_of 8 = .ok (.imul, 1) := dk_104 (dk_at dksX6_of_0 8 rfl rfl)
theorem dX6_of_9 : decode cX6_of 9 = .ok (.iadd, 1) := dk_96 (dk_at dksX6_of_0 9 rfl rfl)
theorem dX6_of_10 : decode cX6_of 10 = .ok (.iload_n 2, 1) := dk_28 (dk_at dksX6_of_0 10 rfl rfl)
theorem dX6_of_11 : decode cX6_of 11 = .ok (.iadd, 1) := dk_96 (dk_at dksX6_of_0 11 rfl rfl)
theorem dX6_of_12 : decode cX6_of 12 = .ok (.iaload, 1) := dk_46 (dk_at dksX6_of_0 12 rfl rfl)
theorem dX6_of_13 : decode cX6_of 13 = .ok (.ireturn, 1) := dk_172 (dk_at dksX6_of_0 13 rfl rfl)
abbrev cX6_freeOf : ByteArray := prog_19_method_60_code
def yX6_freeOf : MethodName := ⟨RX6, "freeOf", "(I)I"⟩
def dkwX6_freeOf_1 : List UInt8 := [160, 0, 7, 28, 167, 0, 8, 4, 29, 120, 2, 130, 126, 61, 132, 3, 1, 167, 255, 225, 28, 172]
abbrev dktX6_freeOf_1 : List UInt8 := dkwX6_freeOf_1 ++ []
def dkwX6_freeOf_0 : List UInt8 := [42, 27, 4, 182, 0, 68, 61, 3, 62, 29, 16, 8, 162, 0, 31, 28, 42, 27, 29, 182, 1, 15, 2]
abbrev dktX6_freeOf_0 : List UInt8 := dkwX6_freeOf_0 ++ dktX6_freeOf_1
theorem dksX6_freeOf_0 : cX6_freeOf.data.toList.drop 0 = dktX6_freeOf_0 := by decide +kernel
theorem dksX6_freeOf_1 : cX6_freeOf.data.toList.drop 23 = dktX6_freeOf_1 := dk_seg dksX6_freeOf_0 23 rfl rfl
theorem dX6_freeOf_0 : decode cX6_freeOf 0 = .ok (.aload_n 0, 1) := dk_42 (dk_at dksX6_freeOf_0 0 rfl rfl)
theorem dX6_freeOf_1 : decode cX6_freeOf 1 = .ok (.iload_n 1, 1) := dk_27 (dk_at dksX6_freeOf_0 1 rfl rfl)
theorem dX6_freeOf_2 : decode cX6_freeOf 2 = .ok (.iconst 1, 1) := dk_4 (dk_at dksX6_freeOf_0 2 rfl rfl)
theorem dX6_freeOf_3 : decode cX6_freeOf 3 = .ok (.invokevirtual 68, 3) := dk_182 0 68 (dk_at dksX6_freeOf_0 3 rfl rfl)
theorem dX6_freeOf_6 : decode cX6_freeOf 6 = .ok (.istore_n 2, 1) := dk_61 (dk_at dksX6_freeOf_0 6 rfl rfl)
theorem dX6_freeOf_7 : decode cX6_freeOf 7 = .ok (.iconst 0, 1) := dk_3 (dk_at dksX6_freeOf_0 7 rfl rfl)
theorem dX6_freeOf_8 : decode cX6_freeOf 8 = .ok (.istore_n 3, 1) := dk_62 (dk_at dksX6_freeOf_0 8 rfl rfl)
theorem dX6_freeOf_9 : decode cX6_freeOf 9 = .ok (.iload_n 3, 1) := dk_29 (dk_at dksX6_freeOf_0 9 rfl rfl)
theorem dX6_freeOf_10 : decode cX6_freeOf 10 = .ok (.bipush 8, 2) := dk_16 8 (dk_at dksX6_freeOf_0 10 rfl rfl)
theorem dX6_freeOf_12 : decode cX6_freeOf 12 = .ok (.if_icmp .ge 31, 3) := dk_162 0 31 (dk_at dksX6_freeOf_0 12 rfl rfl)
theorem dX6_freeOf_15 : decode cX6_freeOf 15 = .ok (.iload_n 2, 1) := dk_28 (dk_at dksX6_freeOf_0 15 rfl rfl)
theorem dX6_freeOf_16 : decode cX6_freeOf 16 = .ok (.aload_n 0, 1) := dk_42 (dk_at dksX6_freeOf_0 16 rfl rfl)
theorem dX6_freeOf_17 : decode cX6_freeOf 17 = .ok (.iload_n 1, 1) := dk_27 (dk_at dksX6_freeOf_0 17 rfl rfl)
theorem dX6_freeOf_18 : decode cX6_freeOf 18 = .ok (.iload_n 3, 1) := dk_29 (dk_at dksX6_freeOf_0 18 rfl rfl)
theorem dX6_freeOf_19 : decode cX6_freeOf 19 = .ok (.invokevirtual 271, 3) := dk_182 1 15 (dk_at dksX6_freeOf_0 19 rfl rfl)
theorem dX6_freeOf_22 : decode cX6_freeOf 22 = .ok (.iconst (-1), 1) := dk_2 (dk_at dksX6_freeOf_0 22 rfl rfl)
theorem dX6_freeOf_23 : decode cX6_freeOf 23 = .ok (.if_icmp .ne 7, 3) := dk_160 0 7 (dk_at dksX6_freeOf_1 0 rfl rfl)
theorem dX6_freeOf_26 : decode cX6_freeOf 26 = .ok (.iload_n 2, 1) := dk_28 (dk_at dksX6_freeOf_1 3 rfl rfl)
theorem dX6_freeOf_27 : decode cX6_freeOf 27 = .ok (.goto 8, 3) := dk_167 0 8 (dk_at dksX6_freeOf_1 4 rfl rfl)
theorem dX6_freeOf_30 : decode cX6_freeOf 30 = .ok (.iconst 1, 1) := dk_4 (dk_at dksX6_freeOf_1 7 rfl rfl)
theorem dX6_freeOf_31 : decode cX6_freeOf 31 = .ok (.iload_n 3, 1) := dk_29 (dk_at dksX6_freeOf_1 8 rfl rfl)
theorem dX6_freeOf_32 : decode cX6_freeOf 32 = .ok (.ishl, 1) := dk_120 (dk_at dksX6_freeOf_1 9 rfl rfl)
theorem dX6_freeOf_33 : decode cX6_freeOf 33 = .ok (.iconst (-1), 1) := dk_2 (dk_at dksX6_freeOf_1 10 rfl rfl)
theorem dX6_freeOf_34 : decode cX6_freeOf 34 = .ok (.ixor, 1) := dk_130 (dk_at dksX6_freeOf_1 11 rfl rfl)
theorem dX6_freeOf_35 : decode cX6_freeOf 35 = .ok (.iand, 1) := dk_126 (dk_at dksX6_freeOf_1 12 rfl rfl)
theorem dX6_freeOf_36 : decode cX6_freeOf 36 = .ok (.istore_n 2, 1) := dk_61 (dk_at dksX6_freeOf_1 13 rfl rfl)
theorem dX6_freeOf_37 : decode cX6_freeOf 37 = .ok (.iinc 3 1, 3) := dk_132 3 1 (dk_at dksX6_freeOf_1 14 rfl rfl)
theorem dX6_freeOf_40 : decode cX6_freeOf 40 = .ok (.goto (-31), 3) := dk_167 255 225 (dk_at dksX6_freeOf_1 17 rfl rfl)
theorem dX6_freeOf_43 : decode cX6_freeOf 43 = .ok (.iload_n 2, 1) := dk_28 (dk_at dksX6_freeOf_1 20 rfl rfl)
theorem dX6_freeOf_44 : decode cX6_freeOf 44 = .ok (.ireturn, 1) := dk_172 (dk_at dksX6_freeOf_1 21 rfl rfl)
abbrev cX6_bookedIn : ByteArray := prog_19_method_13_code
def yX6_bookedIn : MethodName := ⟨RX6, "bookedIn", "(II)I"⟩
def dkwX6_bookedIn_0 : List UInt8 := [42, 180, 0, 7, 17, 0, 195, 16, 8, 27, 104, 96, 28, 96, 46, 172]
abbrev dktX6_bookedIn_0 : List UInt8 := dkwX6_bookedIn_0 ++ []
theorem dksX6_bookedIn_0 : cX6_bookedIn.data.toList.drop 0 = dktX6_bookedIn_0 := by decide +kernel
theorem dX6_bookedIn_0 : decode cX6_bookedIn 0 = .ok (.aload_n 0, 1) := dk_42 (dk_at dksX6_bookedIn_0 0 rfl rfl)
theorem dX6_bookedIn_1 : decode cX6_bookedIn 1 = .ok (.getfield 7, 3) := dk_180 0 7 (dk_at dksX6_bookedIn_0 1 rfl rfl)
theorem dX6_bookedIn_4 : decode cX6_bookedIn 4 = .ok (.sipush 195, 3) := dk_17 0 195 (dk_at dksX6_bookedIn_0 4 rfl rfl)
theorem dX6_bookedIn_7 : decode cX6_bookedIn 7 = .ok (.bipush 8, 2) := dk_16 8 (dk_at dksX6_bookedIn_0 7 rfl rfl)
theorem dX6_bookedIn_9 : decode cX6_bookedIn 9 = .ok (.iload_n 1, 1) := dk_27 (dk_at dksX6_bookedIn_0 9 rfl rfl)
theorem dX6_bookedIn_10 : decode cX6_bookedIn 10 = .ok (.imul, 1) := dk_104 (dk_at dksX6_bookedIn_0 10 rfl rfl)
theorem dX6_bookedIn_11 : decode cX6_bookedIn 11 = .ok (.iadd, 1) := dk_96 (dk_at dksX6_bookedIn_0 11 rfl rfl)
theorem dX6_bookedIn_12 : decode cX6_bookedIn 12 = .ok (.iload_n 2, 1) := dk_28 (dk_at dksX6_bookedIn_0 12 rfl rfl)
theorem dX6_bookedIn_13 : decode cX6_bookedIn 13 = .ok (.iadd, 1) := dk_96 (dk_at dksX6_bookedIn_0 13 rfl rfl)
theorem dX6_bookedIn_14 : decode cX6_bookedIn 14 = .ok (.iaload, 1) := dk_46 (dk_at dksX6_bookedIn_0 14 rfl rfl)
theorem dX6_bookedIn_15 : decode cX6_bookedIn 15 = .ok (.ireturn, 1) := dk_172 (dk_at dksX6_bookedIn_0 15 rfl rfl)
abbrev cX6_seesOf : ByteArray := prog_19_method_61_code
def yX6_seesOf : MethodName := ⟨RX6, "seesOf", "(I)I"⟩
def dkwX6_seesOf_1 : List UInt8 := [167, 0, 11, 4, 42, 27, 29, 182, 1, 15, 120, 128, 61, 132, 3, 1, 167, 255, 222, 28, 172]
abbrev dktX6_seesOf_1 : List UInt8 := dkwX6_seesOf_1 ++ []
def dkwX6_seesOf_0 : List UInt8 := [3, 61, 3, 62, 29, 16, 8, 162, 0, 34, 28, 42, 27, 29, 182, 1, 15, 2, 160, 0, 7, 3]
abbrev dktX6_seesOf_0 : List UInt8 := dkwX6_seesOf_0 ++ dktX6_seesOf_1
theorem dksX6_seesOf_0 : cX6_seesOf.data.toList.drop 0 = dktX6_seesOf_0 := by decide +kernel
theorem dksX6_seesOf_1 : cX6_seesOf.data.toList.drop 22 = dktX6_seesOf_1 := dk_seg dksX6_seesOf_0 22 rfl rfl
theorem dX6_seesOf_0 : decode cX6_seesOf 0 = .ok (.iconst 0, 1) := dk_3 (dk_at dksX6_seesOf_0 0 rfl rfl)
theorem dX6_seesOf_1 : decode cX6_seesOf 1 = .ok (.istore_n 2, 1) := dk_61 (dk_at dksX6_seesOf_0 1 rfl rfl)
theorem dX6_seesOf_2 : decode cX6_seesOf 2 = .ok (.iconst 0, 1) := dk_3 (dk_at dksX6_seesOf_0 2 rfl rfl)
theorem dX6_seesOf_3 : decode cX6_seesOf 3 = .ok (.istore_n 3, 1) := dk_62 (dk_at dksX6_seesOf_0 3 rfl rfl)
theorem dX6_seesOf_4 : decode cX6_seesOf 4 = .ok (.iload_n 3, 1) := dk_29 (dk_at dksX6_seesOf_0 4 rfl rfl)
theorem dX6_seesOf_5 : decode cX6_seesOf 5 = .ok (.bipush 8, 2) := dk_16 8 (dk_at dksX6_seesOf_0 5 rfl rfl)
theorem dX6_seesOf_7 : decode cX6_seesOf 7 = .ok (.if_icmp .ge 34, 3) := dk_162 0 34 (dk_at dksX6_seesOf_0 7 rfl rfl)
theorem dX6_seesOf_10 : decode cX6_seesOf 10 = .ok (.iload_n 2, 1) := dk_28 (dk_at dksX6_seesOf_0 10 rfl rfl)
theorem dX6_seesOf_11 : decode cX6_seesOf 11 = .ok (.aload_n 0, 1) := dk_42 (dk_at dksX6_seesOf_0 11 rfl rfl)
theorem dX6_seesOf_12 : decode cX6_seesOf 12 = .ok (.iload_n 1, 1) := dk_27 (dk_at dksX6_seesOf_0 12 rfl rfl)
theorem dX6_seesOf_13 : decode cX6_seesOf 13 = .ok (.iload_n 3, 1) := dk_29 (dk_at dksX6_seesOf_0 13 rfl rfl)
theorem dX6_seesOf_14 : decode cX6_seesOf 14 = .ok (.invokevirtual 271, 3) := dk_182 1 15 (dk_at dksX6_seesOf_0 14 rfl rfl)
theorem dX6_seesOf_17 : decode cX6_seesOf 17 = .ok (.iconst (-1), 1) := dk_2 (dk_at dksX6_seesOf_0 17 rfl rfl)
theorem dX6_seesOf_18 : decode cX6_seesOf 18 = .ok (.if_icmp .ne 7, 3) := dk_160 0 7 (dk_at dksX6_seesOf_0 18 rfl rfl)
theorem dX6_seesOf_21 : decode cX6_seesOf 21 = .ok (.iconst 0, 1) := dk_3 (dk_at dksX6_seesOf_0 21 rfl rfl)
theorem dX6_seesOf_22 : decode cX6_seesOf 22 = .ok (.goto 11, 3) := dk_167 0 11 (dk_at dksX6_seesOf_1 0 rfl rfl)
theorem dX6_seesOf_25 : decode cX6_seesOf 25 = .ok (.iconst 1, 1) := dk_4 (dk_at dksX6_seesOf_1 3 rfl rfl)
theorem dX6_seesOf_26 : decode cX6_seesOf 26 = .ok (.aload_n 0, 1) := dk_42 (dk_at dksX6_seesOf_1 4 rfl rfl)
theorem dX6_seesOf_27 : decode cX6_seesOf 27 = .ok (.iload_n 1, 1) := dk_27 (dk_at dksX6_seesOf_1 5 rfl rfl)
theorem dX6_seesOf_28 : decode cX6_seesOf 28 = .ok (.iload_n 3, 1) := dk_29 (dk_at dksX6_seesOf_1 6 rfl rfl)
theorem dX6_seesOf_29 : decode cX6_seesOf 29 = .ok (.invokevirtual 271, 3) := dk_182 1 15 (dk_at dksX6_seesOf_1 7 rfl rfl)
theorem dX6_seesOf_32 : decode cX6_seesOf 32 = .ok (.ishl, 1) := dk_120 (dk_at dksX6_seesOf_1 10 rfl rfl)
theorem dX6_seesOf_33 : decode cX6_seesOf 33 = .ok (.ior, 1) := dk_128 (dk_at dksX6_seesOf_1 11 rfl rfl)
theorem dX6_seesOf_34 : decode cX6_seesOf 34 = .ok (.istore_n 2, 1) := dk_61 (dk_at dksX6_seesOf_1 12 rfl rfl)
theorem dX6_seesOf_35 : decode cX6_seesOf 35 = .ok (.iinc 3 1, 3) := dk_132 3 1 (dk_at dksX6_seesOf_1 13 rfl rfl)
theorem dX6_seesOf_38 : decode cX6_seesOf 38 = .ok (.goto (-34), 3) := dk_167 255 222 (dk_at dksX6_seesOf_1 16 rfl rfl)
theorem dX6_seesOf_41 : decode cX6_seesOf 41 = .ok (.iload_n 2, 1) := dk_28 (dk_at dksX6_seesOf_1 19 rfl rfl)
theorem dX6_seesOf_42 : decode cX6_seesOf 42 = .ok (.ireturn, 1) := dk_172 (dk_at dksX6_seesOf_1 20 rfl rfl)
abbrev cX6_gladness : ByteArray := prog_19_method_64_code
def yX6_gladness : MethodName := ⟨RX6, "gladness", "()I"⟩
def dkwX6_gladness_1 : List UInt8 := [132, 2, 1, 167, 255, 234, 27, 172]
abbrev dktX6_gladness_1 : List UInt8 := dkwX6_gladness_1 ++ []
def dkwX6_gladness_0 : List UInt8 := [3, 60, 3, 61, 28, 42, 180, 0, 7, 6, 46, 162, 0, 18, 27, 42, 28, 5, 182, 0, 68, 96, 60]
abbrev dktX6_gladness_0 : List UInt8 := dkwX6_gladness_0 ++ dktX6_gladness_1
theorem dksX6_gladness_0 : cX6_gladness.data.toList.drop 0 = dktX6_gladness_0 := by decide +kernel
theorem dksX6_gladness_1 : cX6_gladness.data.toList.drop 23 = dktX6_gladness_1 := dk_seg dksX6_gladness_0 23 rfl rfl
theorem dX6_gladness_0 : decode cX6_gladness 0 = .ok (.iconst 0, 1) := dk_3 (dk_at dksX6_gladness_0 0 rfl rfl)
theorem dX6_gladness_1 : decode cX6_gladness 1 = .ok (.istore_n 1, 1) := dk_60 (dk_at dksX6_gladness_0 1 rfl rfl)
theorem dX6_gladness_2 : decode cX6_gladness 2 = .ok (.iconst 0, 1) := dk_3 (dk_at dksX6_gladness_0 2 rfl rfl)
theorem dX6_gladness_3 : decode cX6_gladness 3 = .ok (.istore_n 2, 1) := dk_61 (dk_at dksX6_gladness_0 3 rfl rfl)
theorem dX6_gladness_4 : decode cX6_gladness 4 = .ok (.iload_n 2, 1) := dk_28 (dk_at dksX6_gladness_0 4 rfl rfl)
theorem dX6_gladness_5 : decode cX6_gladness 5 = .ok (.aload_n 0, 1) := dk_42 (dk_at dksX6_gladness_0 5 rfl rfl)
theorem dX6_gladness_6 : decode cX6_gladness 6 = .ok (.getfield 7, 3) := dk_180 0 7 (dk_at dksX6_gladness_0 6 rfl rfl)
theorem dX6_gladness_9 : decode cX6_gladness 9 = .ok (.iconst 3, 1) := dk_6 (dk_at dksX6_gladness_0 9 rfl rfl)
theorem dX6_gladness_10 : decode cX6_gladness 10 = .ok (.iaload, 1) := dk_46 (dk_at dksX6_gladness_0 10 rfl rfl)
theorem dX6_gladness_11 : decode cX6_gladness 11 = .ok (.if_icmp .ge 18, 3) := dk_162 0 18 (dk_at dksX6_gladness_0 11 rfl rfl)
theorem dX6_gladness_14 : decode cX6_gladness 14 = .ok (.iload_n 1, 1) := dk_27 (dk_at dksX6_gladness_0 14 rfl rfl)
theorem dX6_gladness_15 : decode cX6_gladness 15 = .ok (.aload_n 0, 1) := dk_42 (dk_at dksX6_gladness_0 15 rfl rfl)
theorem dX6_gladness_16 : decode cX6_gladness 16 = .ok (.iload_n 2, 1) := dk_28 (dk_at dksX6_gladness_0 16 rfl rfl)
theorem dX6_gladness_17 : decode cX6_gladness 17 = .ok (.iconst 2, 1) := dk_5 (dk_at dksX6_gladness_0 17 rfl rfl)
theorem dX6_gladness_18 : decode cX6_gladness 18 = .ok (.invokevirtual 68, 3) := dk_182 0 68 (dk_at dksX6_gladness_0 18 rfl rfl)
theorem dX6_gladness_21 : decode cX6_gladness 21 = .ok (.iadd, 1) := dk_96 (dk_at dksX6_gladness_0 21 rfl rfl)
theorem dX6_gladness_22 : decode cX6_gladness 22 = .ok (.istore_n 1, 1) := dk_60 (dk_at dksX6_gladness_0 22 rfl rfl)
theorem dX6_gladness_23 : decode cX6_gladness 23 = .ok (.iinc 2 1, 3) := dk_132 2 1 (dk_at dksX6_gladness_1 0 rfl rfl)
theorem dX6_gladness_26 : decode cX6_gladness 26 = .ok (.goto (-22), 3) := dk_167 255 234 (dk_at dksX6_gladness_1 3 rfl rfl)
theorem dX6_gladness_29 : decode cX6_gladness 29 = .ok (.iload_n 1, 1) := dk_27 (dk_at dksX6_gladness_1 6 rfl rfl)
theorem dX6_gladness_30 : decode cX6_gladness 30 = .ok (.ireturn, 1) := dk_172 (dk_at dksX6_gladness_1 7 rfl rfl)
abbrev cX6_guest : ByteArray := prog_19_method_66_code
def yX6_guest : MethodName := ⟨RX6, "guest", "(II)I"⟩
def dkwX6_guest_4 : List UInt8 := [172]
abbrev dktX6_guest_4 : List UInt8 := dkwX6_guest_4 ++ []
def dkwX6_guest_3 : List UInt8 := [182, 1, 72, 167, 0, 21, 42, 42, 27, 5, 182, 0, 71, 182, 1, 12, 153, 0, 7, 4, 167, 0, 4, 3]
abbrev dktX6_guest_3 : List UInt8 := dkwX6_guest_3 ++ dktX6_guest_4
def dkwX6_guest_2 : List UInt8 := [182, 0, 71, 172, 28, 6, 160, 0, 9, 42, 27, 182, 1, 69, 172, 28, 7, 160, 0, 11, 42, 27]
abbrev dktX6_guest_2 : List UInt8 := dkwX6_guest_2 ++ dktX6_guest_3
def dkwX6_guest_1 : List UInt8 := [167, 0, 4, 3, 181, 0, 54, 42, 180, 0, 54, 158, 0, 5, 3, 172, 28, 6, 162, 0, 10, 42, 27, 28]
abbrev dktX6_guest_1 : List UInt8 := dkwX6_guest_1 ++ dktX6_guest_2
def dkwX6_guest_0 : List UInt8 := [42, 42, 27, 182, 1, 66, 154, 0, 7, 4, 167, 0, 17, 28, 3, 8, 184, 0, 57, 154, 0, 7, 5]
abbrev dktX6_guest_0 : List UInt8 := dkwX6_guest_0 ++ dktX6_guest_1
theorem dksX6_guest_0 : cX6_guest.data.toList.drop 0 = dktX6_guest_0 := by decide +kernel
theorem dksX6_guest_1 : cX6_guest.data.toList.drop 23 = dktX6_guest_1 := dk_seg dksX6_guest_0 23 rfl rfl
theorem dksX6_guest_2 : cX6_guest.data.toList.drop 47 = dktX6_guest_2 := dk_seg dksX6_guest_1 24 rfl rfl
theorem dksX6_guest_3 : cX6_guest.data.toList.drop 69 = dktX6_guest_3 := dk_seg dksX6_guest_2 22 rfl rfl
theorem dksX6_guest_4 : cX6_guest.data.toList.drop 93 = dktX6_guest_4 := dk_seg dksX6_guest_3 24 rfl rfl
theorem dX6_guest_0 : decode cX6_guest 0 = .ok (.aload_n 0, 1) := dk_42 (dk_at dksX6_guest_0 0 rfl rfl)
theorem dX6_guest_1 : decode cX6_guest 1 = .ok (.aload_n 0, 1) := dk_42 (dk_at dksX6_guest_0 1 rfl rfl)
theorem dX6_guest_2 : decode cX6_guest 2 = .ok (.iload_n 1, 1) := dk_27 (dk_at dksX6_guest_0 2 rfl rfl)
theorem dX6_guest_3 : decode cX6_guest 3 = .ok (.invokevirtual 322, 3) := dk_182 1 66 (dk_at dksX6_guest_0 3 rfl rfl)
theorem dX6_guest_6 : decode cX6_guest 6 = .ok (.ifCond .ne 7, 3) := dk_154 0 7 (dk_at dksX6_guest_0 6 rfl rfl)
theorem dX6_guest_9 : decode cX6_guest 9 = .ok (.iconst 1, 1) := dk_4 (dk_at dksX6_guest_0 9 rfl rfl)
theorem dX6_guest_10 : decode cX6_guest 10 = .ok (.goto 17, 3) := dk_167 0 17 (dk_at dksX6_guest_0 10 rfl rfl)
theorem dX6_guest_13 : decode cX6_guest 13 = .ok (.iload_n 2, 1) := dk_28 (dk_at dksX6_guest_0 13 rfl rfl)
theorem dX6_guest_14 : decode cX6_guest 14 = .ok (.iconst 0, 1) := dk_3 (dk_at dksX6_guest_0 14 rfl rfl)
theorem dX6_guest_15 : decode cX6_guest 15 = .ok (.iconst 5, 1) := dk_8 (dk_at dksX6_guest_0 15 rfl rfl)
theorem dX6_guest_16 : decode cX6_guest 16 = .ok (.invokestatic 57, 3) := dk_184 0 57 (dk_at dksX6_guest_0 16 rfl rfl)
theorem dX6_guest_19 : decode cX6_guest 19 = .ok (.ifCond .ne 7, 3) := dk_154 0 7 (dk_at dksX6_guest_0 19 rfl rfl)
theorem dX6_guest_22 : decode cX6_guest 22 = .ok (.iconst 2, 1) := dk_5 (dk_at dksX6_guest_0 22 rfl rfl)
theorem dX6_guest_23 : decode cX6_guest 23 = .ok (.goto 4, 3) := dk_167 0 4 (dk_at dksX6_guest_1 0 rfl rfl)
theorem dX6_guest_26 : decode cX6_guest 26 = .ok (.iconst 0, 1) := dk_3 (dk_at dksX6_guest_1 3 rfl rfl)
theorem dX6_guest_27 : decode cX6_guest 27 = .ok (.putfield 54, 3) := dk_181 0 54 (dk_at dksX6_guest_1 4 rfl rfl)
theorem dX6_guest_30 : decode cX6_guest 30 = .ok (.aload_n 0, 1) := dk_42 (dk_at dksX6_guest_1 7 rfl rfl)
theorem dX6_guest_31 : decode cX6_guest 31 = .ok (.getfield 54, 3) := dk_180 0 54 (dk_at dksX6_guest_1 8 rfl rfl)
theorem dX6_guest_34 : decode cX6_guest 34 = .ok (.ifCond .le 5, 3) := dk_158 0 5 (dk_at dksX6_guest_1 11 rfl rfl)
theorem dX6_guest_37 : decode cX6_guest 37 = .ok (.iconst 0, 1) := dk_3 (dk_at dksX6_guest_1 14 rfl rfl)
theorem dX6_guest_38 : decode cX6_guest 38 = .ok (.ireturn, 1) := dk_172 (dk_at dksX6_guest_1 15 rfl rfl)
theorem dX6_guest_39 : decode cX6_guest 39 = .ok (.iload_n 2, 1) := dk_28 (dk_at dksX6_guest_1 16 rfl rfl)
theorem dX6_guest_40 : decode cX6_guest 40 = .ok (.iconst 3, 1) := dk_6 (dk_at dksX6_guest_1 17 rfl rfl)
theorem dX6_guest_41 : decode cX6_guest 41 = .ok (.if_icmp .ge 10, 3) := dk_162 0 10 (dk_at dksX6_guest_1 18 rfl rfl)
theorem dX6_guest_44 : decode cX6_guest 44 = .ok (.aload_n 0, 1) := dk_42 (dk_at dksX6_guest_1 21 rfl rfl)
theorem dX6_guest_45 : decode cX6_guest 45 = .ok (.iload_n 1, 1) := dk_27 (dk_at dksX6_guest_1 22 rfl rfl)
theorem dX6_guest_46 : decode cX6_guest 46 = .ok (.iload_n 2, 1) := dk_28 (dk_at dksX6_guest_1 23 rfl rfl)
theorem dX6_guest_47 : decode cX6_guest 47 = .ok (.invokevirtual 71, 3) := dk_182 0 71 (dk_at dksX6_guest_2 0 rfl rfl)
theorem dX6_guest_50 : decode cX6_guest 50 = .ok (.ireturn, 1) := dk_172 (dk_at dksX6_guest_2 3 rfl rfl)
theorem dX6_guest_51 : decode cX6_guest 51 = .ok (.iload_n 2, 1) := dk_28 (dk_at dksX6_guest_2 4 rfl rfl)
theorem dX6_guest_52 : decode cX6_guest 52 = .ok (.iconst 3, 1) := dk_6 (dk_at dksX6_guest_2 5 rfl rfl)
theorem dX6_guest_53 : decode cX6_guest 53 = .ok (.if_icmp .ne 9, 3) := dk_160 0 9 (dk_at dksX6_guest_2 6 rfl rfl)
theorem dX6_guest_56 : decode cX6_guest 56 = .ok (.aload_n 0, 1) := dk_42 (dk_at dksX6_guest_2 9 rfl rfl)
theorem dX6_guest_57 : decode cX6_guest 57 = .ok (.iload_n 1, 1) := dk_27 (dk_at dksX6_guest_2 10 rfl rfl)
theorem dX6_guest_58 : decode cX6_guest 58 = .ok (.invokevirtual 325, 3) := dk_182 1 69 (dk_at dksX6_guest_2 11 rfl rfl)
theorem dX6_guest_61 : decode cX6_guest 61 = .ok (.ireturn, 1) := dk_172 (dk_at dksX6_guest_2 14 rfl rfl)
theorem dX6_guest_62 : decode cX6_guest 62 = .ok (.iload_n 2, 1) := dk_28 (dk_at dksX6_guest_2 15 rfl rfl)
theorem dX6_guest_63 : decode cX6_guest 63 = .ok (.iconst 4, 1) := dk_7 (dk_at dksX6_guest_2 16 rfl rfl)
theorem dX6_guest_64 : decode cX6_guest 64 = .ok (.if_icmp .ne 11, 3) := dk_160 0 11 (dk_at dksX6_guest_2 17 rfl rfl)
theorem dX6_guest_67 : decode cX6_guest 67 = .ok (.aload_n 0, 1) := dk_42 (dk_at dksX6_guest_2 20 rfl rfl)
theorem dX6_guest_68 : decode cX6_guest 68 = .ok (.iload_n 1, 1) := dk_27 (dk_at dksX6_guest_2 21 rfl rfl)
theorem dX6_guest_69 : decode cX6_guest 69 = .ok (.invokevirtual 328, 3) := dk_182 1 72 (dk_at dksX6_guest_3 0 rfl rfl)
theorem dX6_guest_72 : decode cX6_guest 72 = .ok (.goto 21, 3) := dk_167 0 21 (dk_at dksX6_guest_3 3 rfl rfl)
theorem dX6_guest_75 : decode cX6_guest 75 = .ok (.aload_n 0, 1) := dk_42 (dk_at dksX6_guest_3 6 rfl rfl)
theorem dX6_guest_76 : decode cX6_guest 76 = .ok (.aload_n 0, 1) := dk_42 (dk_at dksX6_guest_3 7 rfl rfl)
theorem dX6_guest_77 : decode cX6_guest 77 = .ok (.iload_n 1, 1) := dk_27 (dk_at dksX6_guest_3 8 rfl rfl)
theorem dX6_guest_78 : decode cX6_guest 78 = .ok (.iconst 2, 1) := dk_5 (dk_at dksX6_guest_3 9 rfl rfl)
theorem dX6_guest_79 : decode cX6_guest 79 = .ok (.invokevirtual 71, 3) := dk_182 0 71 (dk_at dksX6_guest_3 10 rfl rfl)
theorem dX6_guest_82 : decode cX6_guest 82 = .ok (.invokevirtual 268, 3) := dk_182 1 12 (dk_at dksX6_guest_3 13 rfl rfl)
theorem dX6_guest_85 : decode cX6_guest 85 = .ok (.ifCond .eq 7, 3) := dk_153 0 7 (dk_at dksX6_guest_3 16 rfl rfl)
theorem dX6_guest_88 : decode cX6_guest 88 = .ok (.iconst 1, 1) := dk_4 (dk_at dksX6_guest_3 19 rfl rfl)
theorem dX6_guest_89 : decode cX6_guest 89 = .ok (.goto 4, 3) := dk_167 0 4 (dk_at dksX6_guest_3 20 rfl rfl)
theorem dX6_guest_92 : decode cX6_guest 92 = .ok (.iconst 0, 1) := dk_3 (dk_at dksX6_guest_3 23 rfl rfl)
theorem dX6_guest_93 : decode cX6_guest 93 = .ok (.ireturn, 1) := dk_172 (dk_at dksX6_guest_4 0 rfl rfl)
abbrev cX6_isGuest : ByteArray := prog_19_method_15_code
def yX6_isGuest : MethodName := ⟨RX6, "isGuest", "(I)Z"⟩
def dkwX6_isGuest_0 : List UInt8 := [27, 3, 42, 180, 0, 7, 7, 46, 4, 100, 184, 0, 57, 172]
abbrev dktX6_isGuest_0 : List UInt8 := dkwX6_isGuest_0 ++ []
theorem dksX6_isGuest_0 : cX6_isGuest.data.toList.drop 0 = dktX6_isGuest_0 := by decide +kernel
theorem dX6_isGuest_0 : decode cX6_isGuest 0 = .ok (.iload_n 1, 1) := dk_27 (dk_at dksX6_isGuest_0 0 rfl rfl)
theorem dX6_isGuest_1 : decode cX6_isGuest 1 = .ok (.iconst 0, 1) := dk_3 (dk_at dksX6_isGuest_0 1 rfl rfl)
theorem dX6_isGuest_2 : decode cX6_isGuest 2 = .ok (.aload_n 0, 1) := dk_42 (dk_at dksX6_isGuest_0 2 rfl rfl)
theorem dX6_isGuest_3 : decode cX6_isGuest 3 = .ok (.getfield 7, 3) := dk_180 0 7 (dk_at dksX6_isGuest_0 3 rfl rfl)
theorem dX6_isGuest_6 : decode cX6_isGuest 6 = .ok (.iconst 4, 1) := dk_7 (dk_at dksX6_isGuest_0 6 rfl rfl)
theorem dX6_isGuest_7 : decode cX6_isGuest 7 = .ok (.iaload, 1) := dk_46 (dk_at dksX6_isGuest_0 7 rfl rfl)
theorem dX6_isGuest_8 : decode cX6_isGuest 8 = .ok (.iconst 1, 1) := dk_4 (dk_at dksX6_isGuest_0 8 rfl rfl)
theorem dX6_isGuest_9 : decode cX6_isGuest 9 = .ok (.isub, 1) := dk_100 (dk_at dksX6_isGuest_0 9 rfl rfl)
theorem dX6_isGuest_10 : decode cX6_isGuest 10 = .ok (.invokestatic 57, 3) := dk_184 0 57 (dk_at dksX6_isGuest_0 10 rfl rfl)
theorem dX6_isGuest_13 : decode cX6_isGuest 13 = .ok (.ireturn, 1) := dk_172 (dk_at dksX6_isGuest_0 13 rfl rfl)
abbrev cX6_ofGuest : ByteArray := prog_19_method_10_code
def yX6_ofGuest : MethodName := ⟨RX6, "ofGuest", "(II)I"⟩
def dkwX6_ofGuest_0 : List UInt8 := [42, 180, 0, 7, 16, 43, 6, 27, 104, 96, 28, 96, 46, 172]
abbrev dktX6_ofGuest_0 : List UInt8 := dkwX6_ofGuest_0 ++ []
theorem dksX6_ofGuest_0 : cX6_ofGuest.data.toList.drop 0 = dktX6_ofGuest_0 := by decide +kernel
theorem dX6_ofGuest_0 : decode cX6_ofGuest 0 = .ok (.aload_n 0, 1) := dk_42 (dk_at dksX6_ofGuest_0 0 rfl rfl)
theorem dX6_ofGuest_1 : decode cX6_ofGuest 1 = .ok (.getfield 7, 3) := dk_180 0 7 (dk_at dksX6_ofGuest_0 1 rfl rfl)
theorem dX6_ofGuest_4 : decode cX6_ofGuest 4 = .ok (.bipush 43, 2) := dk_16 43 (dk_at dksX6_ofGuest_0 4 rfl rfl)
theorem dX6_ofGuest_6 : decode cX6_ofGuest 6 = .ok (.iconst 3, 1) := dk_6 (dk_at dksX6_ofGuest_0 6 rfl rfl)
theorem dX6_ofGuest_7 : decode cX6_ofGuest 7 = .ok (.iload_n 1, 1) := dk_27 (dk_at dksX6_ofGuest_0 7 rfl rfl)
theorem dX6_ofGuest_8 : decode cX6_ofGuest 8 = .ok (.imul, 1) := dk_104 (dk_at dksX6_ofGuest_0 8 rfl rfl)
theorem dX6_ofGuest_9 : decode cX6_ofGuest 9 = .ok (.iadd, 1) := dk_96 (dk_at dksX6_ofGuest_0 9 rfl rfl)
theorem dX6_ofGuest_10 : decode cX6_ofGuest 10 = .ok (.iload_n 2, 1) := dk_28 (dk_at dksX6_ofGuest_0 10 rfl rfl)
theorem dX6_ofGuest_11 : decode cX6_ofGuest 11 = .ok (.iadd, 1) := dk_96 (dk_at dksX6_ofGuest_0 11 rfl rfl)
theorem dX6_ofGuest_12 : decode cX6_ofGuest 12 = .ok (.iaload, 1) := dk_46 (dk_at dksX6_ofGuest_0 12 rfl rfl)
theorem dX6_ofGuest_13 : decode cX6_ofGuest 13 = .ok (.ireturn, 1) := dk_172 (dk_at dksX6_ofGuest_0 13 rfl rfl)
abbrev cX6_busyOf : ByteArray := prog_19_method_62_code
def yX6_busyOf : MethodName := ⟨RX6, "busyOf", "(I)I"⟩
def dkwX6_busyOf_2 : List UInt8 := [132, 4, 1, 167, 255, 224, 132, 3, 1, 167, 255, 205, 28, 172]
abbrev dktX6_busyOf_2 : List UInt8 := dkwX6_busyOf_2 ++ []
def dkwX6_busyOf_1 : List UInt8 := [28, 42, 29, 21, 4, 182, 1, 15, 27, 160, 0, 10, 4, 21, 4, 120, 167, 0, 4, 3, 128, 61]
abbrev dktX6_busyOf_1 : List UInt8 := dkwX6_busyOf_1 ++ dktX6_busyOf_2
def dkwX6_busyOf_0 : List UInt8 := [3, 61, 3, 62, 29, 42, 180, 0, 7, 6, 46, 162, 0, 47, 3, 54, 4, 21, 4, 16, 8, 162, 0, 31]
abbrev dktX6_busyOf_0 : List UInt8 := dkwX6_busyOf_0 ++ dktX6_busyOf_1
theorem dksX6_busyOf_0 : cX6_busyOf.data.toList.drop 0 = dktX6_busyOf_0 := by decide +kernel
theorem dksX6_busyOf_1 : cX6_busyOf.data.toList.drop 24 = dktX6_busyOf_1 := dk_seg dksX6_busyOf_0 24 rfl rfl
theorem dksX6_busyOf_2 : cX6_busyOf.data.toList.drop 46 = dktX6_busyOf_2 := dk_seg dksX6_busyOf_1 22 rfl rfl
theorem dX6_busyOf_0 : decode cX6_busyOf 0 = .ok (.iconst 0, 1) := dk_3 (dk_at dksX6_busyOf_0 0 rfl rfl)
theorem dX6_busyOf_1 : decode cX6_busyOf 1 = .ok (.istore_n 2, 1) := dk_61 (dk_at dksX6_busyOf_0 1 rfl rfl)
theorem dX6_busyOf_2 : decode cX6_busyOf 2 = .ok (.iconst 0, 1) := dk_3 (dk_at dksX6_busyOf_0 2 rfl rfl)
theorem dX6_busyOf_3 : decode cX6_busyOf 3 = .ok (.istore_n 3, 1) := dk_62 (dk_at dksX6_busyOf_0 3 rfl rfl)
theorem dX6_busyOf_4 : decode cX6_busyOf 4 = .ok (.iload_n 3, 1) := dk_29 (dk_at dksX6_busyOf_0 4 rfl rfl)
theorem dX6_busyOf_5 : decode cX6_busyOf 5 = .ok (.aload_n 0, 1) := dk_42 (dk_at dksX6_busyOf_0 5 rfl rfl)
theorem dX6_busyOf_6 : decode cX6_busyOf 6 = .ok (.getfield 7, 3) := dk_180 0 7 (dk_at dksX6_busyOf_0 6 rfl rfl)
theorem dX6_busyOf_9 : decode cX6_busyOf 9 = .ok (.iconst 3, 1) := dk_6 (dk_at dksX6_busyOf_0 9 rfl rfl)
theorem dX6_busyOf_10 : decode cX6_busyOf 10 = .ok (.iaload, 1) := dk_46 (dk_at dksX6_busyOf_0 10 rfl rfl)
theorem dX6_busyOf_11 : decode cX6_busyOf 11 = .ok (.if_icmp .ge 47, 3) := dk_162 0 47 (dk_at dksX6_busyOf_0 11 rfl rfl)
theorem dX6_busyOf_14 : decode cX6_busyOf 14 = .ok (.iconst 0, 1) := dk_3 (dk_at dksX6_busyOf_0 14 rfl rfl)
theorem dX6_busyOf_15 : decode cX6_busyOf 15 = .ok (.istore 4, 2) := dk_54 4 (dk_at dksX6_busyOf_0 15 rfl rfl)
theorem dX6_busyOf_17 : decode cX6_busyOf 17 = .ok (.iload 4, 2) := dk_21 4 (dk_at dksX6_busyOf_0 17 rfl rfl)
theorem dX6_busyOf_19 : decode cX6_busyOf 19 = .ok (.bipush 8, 2) := dk_16 8 (dk_at dksX6_busyOf_0 19 rfl rfl)
theorem dX6_busyOf_21 : decode cX6_busyOf 21 = .ok (.if_icmp .ge 31, 3) := dk_162 0 31 (dk_at dksX6_busyOf_0 21 rfl rfl)
theorem dX6_busyOf_24 : decode cX6_busyOf 24 = .ok (.iload_n 2, 1) := dk_28 (dk_at dksX6_busyOf_1 0 rfl rfl)
theorem dX6_busyOf_25 : decode cX6_busyOf 25 = .ok (.aload_n 0, 1) := dk_42 (dk_at dksX6_busyOf_1 1 rfl rfl)
theorem dX6_busyOf_26 : decode cX6_busyOf 26 = .ok (.iload_n 3, 1) := dk_29 (dk_at dksX6_busyOf_1 2 rfl rfl)
theorem dX6_busyOf_27 : decode cX6_busyOf 27 = .ok (.iload 4, 2) := dk_21 4 (dk_at dksX6_busyOf_1 3 rfl rfl)
theorem dX6_busyOf_29 : decode cX6_busyOf 29 = .ok (.invokevirtual 271, 3) := dk_182 1 15 (dk_at dksX6_busyOf_1 5 rfl rfl)
theorem dX6_busyOf_32 : decode cX6_busyOf 32 = .ok (.iload_n 1, 1) := dk_27 (dk_at dksX6_busyOf_1 8 rfl rfl)
theorem dX6_busyOf_33 : decode cX6_busyOf 33 = .ok (.if_icmp .ne 10, 3) := dk_160 0 10 (dk_at dksX6_busyOf_1 9 rfl rfl)
theorem dX6_busyOf_36 : decode cX6_busyOf 36 = .ok (.iconst 1, 1) := dk_4 (dk_at dksX6_busyOf_1 12 rfl rfl)
theorem dX6_busyOf_37 : decode cX6_busyOf 37 = .ok (.iload 4, 2) := dk_21 4 (dk_at dksX6_busyOf_1 13 rfl rfl)
theorem dX6_busyOf_39 : decode cX6_busyOf 39 = .ok (.ishl, 1) := dk_120 (dk_at dksX6_busyOf_1 15 rfl rfl)
theorem dX6_busyOf_40 : decode cX6_busyOf 40 = .ok (.goto 4, 3) := dk_167 0 4 (dk_at dksX6_busyOf_1 16 rfl rfl)
theorem dX6_busyOf_43 : decode cX6_busyOf 43 = .ok (.iconst 0, 1) := dk_3 (dk_at dksX6_busyOf_1 19 rfl rfl)
theorem dX6_busyOf_44 : decode cX6_busyOf 44 = .ok (.ior, 1) := dk_128 (dk_at dksX6_busyOf_1 20 rfl rfl)
theorem dX6_busyOf_45 : decode cX6_busyOf 45 = .ok (.istore_n 2, 1) := dk_61 (dk_at dksX6_busyOf_1 21 rfl rfl)
theorem dX6_busyOf_46 : decode cX6_busyOf 46 = .ok (.iinc 4 1, 3) := dk_132 4 1 (dk_at dksX6_busyOf_2 0 rfl rfl)
theorem dX6_busyOf_49 : decode cX6_busyOf 49 = .ok (.goto (-32), 3) := dk_167 255 224 (dk_at dksX6_busyOf_2 3 rfl rfl)
theorem dX6_busyOf_52 : decode cX6_busyOf 52 = .ok (.iinc 3 1, 3) := dk_132 3 1 (dk_at dksX6_busyOf_2 6 rfl rfl)
theorem dX6_busyOf_55 : decode cX6_busyOf 55 = .ok (.goto (-51), 3) := dk_167 255 205 (dk_at dksX6_busyOf_2 9 rfl rfl)
theorem dX6_busyOf_58 : decode cX6_busyOf 58 = .ok (.iload_n 2, 1) := dk_28 (dk_at dksX6_busyOf_2 12 rfl rfl)
theorem dX6_busyOf_59 : decode cX6_busyOf 59 = .ok (.ireturn, 1) := dk_172 (dk_at dksX6_busyOf_2 13 rfl rfl)
abbrev cX6_likedOf : ByteArray := prog_19_method_63_code
def yX6_likedOf : MethodName := ⟨RX6, "likedOf", "(I)I"⟩
def dkwX6_likedOf_1 : List UInt8 := [132, 3, 1, 167, 255, 234, 28, 172]
abbrev dktX6_likedOf_1 : List UInt8 := dkwX6_likedOf_1 ++ []
def dkwX6_likedOf_0 : List UInt8 := [3, 61, 3, 62, 29, 42, 180, 0, 7, 6, 46, 162, 0, 18, 28, 42, 29, 27, 182, 0, 61, 96, 61]
abbrev dktX6_likedOf_0 : List UInt8 := dkwX6_likedOf_0 ++ dktX6_likedOf_1
theorem dksX6_likedOf_0 : cX6_likedOf.data.toList.drop 0 = dktX6_likedOf_0 := by decide +kernel
theorem dksX6_likedOf_1 : cX6_likedOf.data.toList.drop 23 = dktX6_likedOf_1 := dk_seg dksX6_likedOf_0 23 rfl rfl
theorem dX6_likedOf_0 : decode cX6_likedOf 0 = .ok (.iconst 0, 1) := dk_3 (dk_at dksX6_likedOf_0 0 rfl rfl)
theorem dX6_likedOf_1 : decode cX6_likedOf 1 = .ok (.istore_n 2, 1) := dk_61 (dk_at dksX6_likedOf_0 1 rfl rfl)
theorem dX6_likedOf_2 : decode cX6_likedOf 2 = .ok (.iconst 0, 1) := dk_3 (dk_at dksX6_likedOf_0 2 rfl rfl)
theorem dX6_likedOf_3 : decode cX6_likedOf 3 = .ok (.istore_n 3, 1) := dk_62 (dk_at dksX6_likedOf_0 3 rfl rfl)
theorem dX6_likedOf_4 : decode cX6_likedOf 4 = .ok (.iload_n 3, 1) := dk_29 (dk_at dksX6_likedOf_0 4 rfl rfl)
theorem dX6_likedOf_5 : decode cX6_likedOf 5 = .ok (.aload_n 0, 1) := dk_42 (dk_at dksX6_likedOf_0 5 rfl rfl)
theorem dX6_likedOf_6 : decode cX6_likedOf 6 = .ok (.getfield 7, 3) := dk_180 0 7 (dk_at dksX6_likedOf_0 6 rfl rfl)
theorem dX6_likedOf_9 : decode cX6_likedOf 9 = .ok (.iconst 3, 1) := dk_6 (dk_at dksX6_likedOf_0 9 rfl rfl)
theorem dX6_likedOf_10 : decode cX6_likedOf 10 = .ok (.iaload, 1) := dk_46 (dk_at dksX6_likedOf_0 10 rfl rfl)
theorem dX6_likedOf_11 : decode cX6_likedOf 11 = .ok (.if_icmp .ge 18, 3) := dk_162 0 18 (dk_at dksX6_likedOf_0 11 rfl rfl)
theorem dX6_likedOf_14 : decode cX6_likedOf 14 = .ok (.iload_n 2, 1) := dk_28 (dk_at dksX6_likedOf_0 14 rfl rfl)
theorem dX6_likedOf_15 : decode cX6_likedOf 15 = .ok (.aload_n 0, 1) := dk_42 (dk_at dksX6_likedOf_0 15 rfl rfl)
theorem dX6_likedOf_16 : decode cX6_likedOf 16 = .ok (.iload_n 3, 1) := dk_29 (dk_at dksX6_likedOf_0 16 rfl rfl)
theorem dX6_likedOf_17 : decode cX6_likedOf 17 = .ok (.iload_n 1, 1) := dk_27 (dk_at dksX6_likedOf_0 17 rfl rfl)
theorem dX6_likedOf_18 : decode cX6_likedOf 18 = .ok (.invokevirtual 61, 3) := dk_182 0 61 (dk_at dksX6_likedOf_0 18 rfl rfl)
theorem dX6_likedOf_21 : decode cX6_likedOf 21 = .ok (.iadd, 1) := dk_96 (dk_at dksX6_likedOf_0 21 rfl rfl)
theorem dX6_likedOf_22 : decode cX6_likedOf 22 = .ok (.istore_n 2, 1) := dk_61 (dk_at dksX6_likedOf_0 22 rfl rfl)
theorem dX6_likedOf_23 : decode cX6_likedOf 23 = .ok (.iinc 3 1, 3) := dk_132 3 1 (dk_at dksX6_likedOf_1 0 rfl rfl)
theorem dX6_likedOf_26 : decode cX6_likedOf 26 = .ok (.goto (-22), 3) := dk_167 255 234 (dk_at dksX6_likedOf_1 3 rfl rfl)
theorem dX6_likedOf_29 : decode cX6_likedOf 29 = .ok (.iload_n 2, 1) := dk_28 (dk_at dksX6_likedOf_1 6 rfl rfl)
theorem dX6_likedOf_30 : decode cX6_likedOf 30 = .ok (.ireturn, 1) := dk_172 (dk_at dksX6_likedOf_1 7 rfl rfl)
abbrev cX6_rankOf : ByteArray := prog_19_method_11_code
def yX6_rankOf : MethodName := ⟨RX6, "rankOf", "(II)I"⟩
def dkwX6_rankOf_0 : List UInt8 := [42, 180, 0, 7, 16, 67, 16, 8, 27, 104, 96, 28, 96, 46, 172]
abbrev dktX6_rankOf_0 : List UInt8 := dkwX6_rankOf_0 ++ []
theorem dksX6_rankOf_0 : cX6_rankOf.data.toList.drop 0 = dktX6_rankOf_0 := by decide +kernel
theorem dX6_rankOf_0 : decode cX6_rankOf 0 = .ok (.aload_n 0, 1) := dk_42 (dk_at dksX6_rankOf_0 0 rfl rfl)
theorem dX6_rankOf_1 : decode cX6_rankOf 1 = .ok (.getfield 7, 3) := dk_180 0 7 (dk_at dksX6_rankOf_0 1 rfl rfl)
theorem dX6_rankOf_4 : decode cX6_rankOf 4 = .ok (.bipush 67, 2) := dk_16 67 (dk_at dksX6_rankOf_0 4 rfl rfl)
theorem dX6_rankOf_6 : decode cX6_rankOf 6 = .ok (.bipush 8, 2) := dk_16 8 (dk_at dksX6_rankOf_0 6 rfl rfl)
theorem dX6_rankOf_8 : decode cX6_rankOf 8 = .ok (.iload_n 1, 1) := dk_27 (dk_at dksX6_rankOf_0 8 rfl rfl)
theorem dX6_rankOf_9 : decode cX6_rankOf 9 = .ok (.imul, 1) := dk_104 (dk_at dksX6_rankOf_0 9 rfl rfl)
theorem dX6_rankOf_10 : decode cX6_rankOf 10 = .ok (.iadd, 1) := dk_96 (dk_at dksX6_rankOf_0 10 rfl rfl)
theorem dX6_rankOf_11 : decode cX6_rankOf 11 = .ok (.iload_n 2, 1) := dk_28 (dk_at dksX6_rankOf_0 11 rfl rfl)
theorem dX6_rankOf_12 : decode cX6_rankOf 12 = .ok (.iadd, 1) := dk_96 (dk_at dksX6_rankOf_0 12 rfl rfl)
theorem dX6_rankOf_13 : decode cX6_rankOf 13 = .ok (.iaload, 1) := dk_46 (dk_at dksX6_rankOf_0 13 rfl rfl)
theorem dX6_rankOf_14 : decode cX6_rankOf 14 = .ok (.ireturn, 1) := dk_172 (dk_at dksX6_rankOf_0 14 rfl rfl)
abbrev cX6_passes : ByteArray := prog_19_method_17_code
def yX6_passes : MethodName := ⟨RX6, "passes", "(I)Z"⟩
def dkwX6_passes_1 : List UInt8 := [16, 8, 46, 126, 154, 0, 7, 4, 167, 0, 4, 3, 172]
abbrev dktX6_passes_1 : List UInt8 := dkwX6_passes_1 ++ []
def dkwX6_passes_0 : List UInt8 := [27, 42, 180, 0, 7, 16, 7, 46, 126, 42, 180, 0, 7, 16, 7, 46, 160, 0, 19, 27, 42, 180, 0, 7]
abbrev dktX6_passes_0 : List UInt8 := dkwX6_passes_0 ++ dktX6_passes_1
theorem dksX6_passes_0 : cX6_passes.data.toList.drop 0 = dktX6_passes_0 := by decide +kernel
theorem dksX6_passes_1 : cX6_passes.data.toList.drop 24 = dktX6_passes_1 := dk_seg dksX6_passes_0 24 rfl rfl
theorem dX6_passes_0 : decode cX6_passes 0 = .ok (.iload_n 1, 1) := dk_27 (dk_at dksX6_passes_0 0 rfl rfl)
theorem dX6_passes_1 : decode cX6_passes 1 = .ok (.aload_n 0, 1) := dk_42 (dk_at dksX6_passes_0 1 rfl rfl)
theorem dX6_passes_2 : decode cX6_passes 2 = .ok (.getfield 7, 3) := dk_180 0 7 (dk_at dksX6_passes_0 2 rfl rfl)
theorem dX6_passes_5 : decode cX6_passes 5 = .ok (.bipush 7, 2) := dk_16 7 (dk_at dksX6_passes_0 5 rfl rfl)
theorem dX6_passes_7 : decode cX6_passes 7 = .ok (.iaload, 1) := dk_46 (dk_at dksX6_passes_0 7 rfl rfl)
theorem dX6_passes_8 : decode cX6_passes 8 = .ok (.iand, 1) := dk_126 (dk_at dksX6_passes_0 8 rfl rfl)
theorem dX6_passes_9 : decode cX6_passes 9 = .ok (.aload_n 0, 1) := dk_42 (dk_at dksX6_passes_0 9 rfl rfl)
theorem dX6_passes_10 : decode cX6_passes 10 = .ok (.getfield 7, 3) := dk_180 0 7 (dk_at dksX6_passes_0 10 rfl rfl)
theorem dX6_passes_13 : decode cX6_passes 13 = .ok (.bipush 7, 2) := dk_16 7 (dk_at dksX6_passes_0 13 rfl rfl)
theorem dX6_passes_15 : decode cX6_passes 15 = .ok (.iaload, 1) := dk_46 (dk_at dksX6_passes_0 15 rfl rfl)
theorem dX6_passes_16 : decode cX6_passes 16 = .ok (.if_icmp .ne 19, 3) := dk_160 0 19 (dk_at dksX6_passes_0 16 rfl rfl)
theorem dX6_passes_19 : decode cX6_passes 19 = .ok (.iload_n 1, 1) := dk_27 (dk_at dksX6_passes_0 19 rfl rfl)
theorem dX6_passes_20 : decode cX6_passes 20 = .ok (.aload_n 0, 1) := dk_42 (dk_at dksX6_passes_0 20 rfl rfl)
theorem dX6_passes_21 : decode cX6_passes 21 = .ok (.getfield 7, 3) := dk_180 0 7 (dk_at dksX6_passes_0 21 rfl rfl)
theorem dX6_passes_24 : decode cX6_passes 24 = .ok (.bipush 8, 2) := dk_16 8 (dk_at dksX6_passes_1 0 rfl rfl)
theorem dX6_passes_26 : decode cX6_passes 26 = .ok (.iaload, 1) := dk_46 (dk_at dksX6_passes_1 2 rfl rfl)
theorem dX6_passes_27 : decode cX6_passes 27 = .ok (.iand, 1) := dk_126 (dk_at dksX6_passes_1 3 rfl rfl)
theorem dX6_passes_28 : decode cX6_passes 28 = .ok (.ifCond .ne 7, 3) := dk_154 0 7 (dk_at dksX6_passes_1 4 rfl rfl)
theorem dX6_passes_31 : decode cX6_passes 31 = .ok (.iconst 1, 1) := dk_4 (dk_at dksX6_passes_1 7 rfl rfl)
theorem dX6_passes_32 : decode cX6_passes 32 = .ok (.goto 4, 3) := dk_167 0 4 (dk_at dksX6_passes_1 8 rfl rfl)
theorem dX6_passes_35 : decode cX6_passes 35 = .ok (.iconst 0, 1) := dk_3 (dk_at dksX6_passes_1 11 rfl rfl)
theorem dX6_passes_36 : decode cX6_passes 36 = .ok (.ireturn, 1) := dk_172 (dk_at dksX6_passes_1 12 rfl rfl)
abbrev cX6_rank : ByteArray := prog_19_method_67_code
def yX6_rank : MethodName := ⟨RX6, "rank", "(IIZ)I"⟩
def dkwX6_rank_2 : List UInt8 := [167, 0, 9, 42, 27, 28, 182, 0, 65, 172]
abbrev dktX6_rank_2 : List UInt8 := dkwX6_rank_2 ++ []
def dkwX6_rank_1 : List UInt8 := [181, 0, 54, 42, 180, 0, 54, 158, 0, 7, 3, 167, 0, 22, 29, 153, 0, 12, 42, 27, 28, 182, 0, 61]
abbrev dktX6_rank_1 : List UInt8 := dkwX6_rank_1 ++ dktX6_rank_2
def dkwX6_rank_0 : List UInt8 := [42, 42, 27, 182, 1, 54, 153, 0, 11, 42, 28, 182, 1, 66, 154, 0, 7, 4, 167, 0, 4, 3]
abbrev dktX6_rank_0 : List UInt8 := dkwX6_rank_0 ++ dktX6_rank_1
theorem dksX6_rank_0 : cX6_rank.data.toList.drop 0 = dktX6_rank_0 := by decide +kernel
theorem dksX6_rank_1 : cX6_rank.data.toList.drop 22 = dktX6_rank_1 := dk_seg dksX6_rank_0 22 rfl rfl
theorem dksX6_rank_2 : cX6_rank.data.toList.drop 46 = dktX6_rank_2 := dk_seg dksX6_rank_1 24 rfl rfl
theorem dX6_rank_0 : decode cX6_rank 0 = .ok (.aload_n 0, 1) := dk_42 (dk_at dksX6_rank_0 0 rfl rfl)
theorem dX6_rank_1 : decode cX6_rank 1 = .ok (.aload_n 0, 1) := dk_42 (dk_at dksX6_rank_0 1 rfl rfl)
theorem dX6_rank_2 : decode cX6_rank 2 = .ok (.iload_n 1, 1) := dk_27 (dk_at dksX6_rank_0 2 rfl rfl)
theorem dX6_rank_3 : decode cX6_rank 3 = .ok (.invokevirtual 310, 3) := dk_182 1 54 (dk_at dksX6_rank_0 3 rfl rfl)
theorem dX6_rank_6 : decode cX6_rank 6 = .ok (.ifCond .eq 11, 3) := dk_153 0 11 (dk_at dksX6_rank_0 6 rfl rfl)
theorem dX6_rank_9 : decode cX6_rank 9 = .ok (.aload_n 0, 1) := dk_42 (dk_at dksX6_rank_0 9 rfl rfl)
theorem dX6_rank_10 : decode cX6_rank 10 = .ok (.iload_n 2, 1) := dk_28 (dk_at dksX6_rank_0 10 rfl rfl)
theorem dX6_rank_11 : decode cX6_rank 11 = .ok (.invokevirtual 322, 3) := dk_182 1 66 (dk_at dksX6_rank_0 11 rfl rfl)
theorem dX6_rank_14 : decode cX6_rank 14 = .ok (.ifCond .ne 7, 3) := dk_154 0 7 (dk_at dksX6_rank_0 14 rfl rfl)
theorem dX6_rank_17 : decode cX6_rank 17 = .ok (.iconst 1, 1) := dk_4 (dk_at dksX6_rank_0 17 rfl rfl)
theorem dX6_rank_18 : decode cX6_rank 18 = .ok (.goto 4, 3) := dk_167 0 4 (dk_at dksX6_rank_0 18 rfl rfl)
theorem dX6_rank_21 : decode cX6_rank 21 = .ok (.iconst 0, 1) := dk_3 (dk_at dksX6_rank_0 21 rfl rfl)
theorem dX6_rank_22 : decode cX6_rank 22 = .ok (.putfield 54, 3) := dk_181 0 54 (dk_at dksX6_rank_1 0 rfl rfl)
theorem dX6_rank_25 : decode cX6_rank 25 = .ok (.aload_n 0, 1) := dk_42 (dk_at dksX6_rank_1 3 rfl rfl)
theorem dX6_rank_26 : decode cX6_rank 26 = .ok (.getfield 54, 3) := dk_180 0 54 (dk_at dksX6_rank_1 4 rfl rfl)
theorem dX6_rank_29 : decode cX6_rank 29 = .ok (.ifCond .le 7, 3) := dk_158 0 7 (dk_at dksX6_rank_1 7 rfl rfl)
theorem dX6_rank_32 : decode cX6_rank 32 = .ok (.iconst 0, 1) := dk_3 (dk_at dksX6_rank_1 10 rfl rfl)
theorem dX6_rank_33 : decode cX6_rank 33 = .ok (.goto 22, 3) := dk_167 0 22 (dk_at dksX6_rank_1 11 rfl rfl)
theorem dX6_rank_36 : decode cX6_rank 36 = .ok (.iload_n 3, 1) := dk_29 (dk_at dksX6_rank_1 14 rfl rfl)
theorem dX6_rank_37 : decode cX6_rank 37 = .ok (.ifCond .eq 12, 3) := dk_153 0 12 (dk_at dksX6_rank_1 15 rfl rfl)
theorem dX6_rank_40 : decode cX6_rank 40 = .ok (.aload_n 0, 1) := dk_42 (dk_at dksX6_rank_1 18 rfl rfl)
theorem dX6_rank_41 : decode cX6_rank 41 = .ok (.iload_n 1, 1) := dk_27 (dk_at dksX6_rank_1 19 rfl rfl)
theorem dX6_rank_42 : decode cX6_rank 42 = .ok (.iload_n 2, 1) := dk_28 (dk_at dksX6_rank_1 20 rfl rfl)
theorem dX6_rank_43 : decode cX6_rank 43 = .ok (.invokevirtual 61, 3) := dk_182 0 61 (dk_at dksX6_rank_1 21 rfl rfl)
theorem dX6_rank_46 : decode cX6_rank 46 = .ok (.goto 9, 3) := dk_167 0 9 (dk_at dksX6_rank_2 0 rfl rfl)
theorem dX6_rank_49 : decode cX6_rank 49 = .ok (.aload_n 0, 1) := dk_42 (dk_at dksX6_rank_2 3 rfl rfl)
theorem dX6_rank_50 : decode cX6_rank 50 = .ok (.iload_n 1, 1) := dk_27 (dk_at dksX6_rank_2 4 rfl rfl)
theorem dX6_rank_51 : decode cX6_rank 51 = .ok (.iload_n 2, 1) := dk_28 (dk_at dksX6_rank_2 5 rfl rfl)
theorem dX6_rank_52 : decode cX6_rank 52 = .ok (.invokevirtual 65, 3) := dk_182 0 65 (dk_at dksX6_rank_2 6 rfl rfl)
theorem dX6_rank_55 : decode cX6_rank 55 = .ok (.ireturn, 1) := dk_172 (dk_at dksX6_rank_2 9 rfl rfl)
abbrev cX6_lovedOf : ByteArray := prog_19_method_12_code
def yX6_lovedOf : MethodName := ⟨RX6, "lovedOf", "(II)I"⟩
def dkwX6_lovedOf_0 : List UInt8 := [42, 180, 0, 7, 17, 0, 131, 16, 8, 28, 104, 96, 27, 96, 46, 172]
abbrev dktX6_lovedOf_0 : List UInt8 := dkwX6_lovedOf_0 ++ []
theorem dksX6_lovedOf_0 : cX6_lovedOf.data.toList.drop 0 = dktX6_lovedOf_0 := by decide +kernel
theorem dX6_lovedOf_0 : decode cX6_lovedOf 0 = .ok (.aload_n 0, 1) := dk_42 (dk_at dksX6_lovedOf_0 0 rfl rfl)
theorem dX6_lovedOf_1 : decode cX6_lovedOf 1 = .ok (.getfield 7, 3) := dk_180 0 7 (dk_at dksX6_lovedOf_0 1 rfl rfl)
theorem dX6_lovedOf_4 : decode cX6_lovedOf 4 = .ok (.sipush 131, 3) := dk_17 0 131 (dk_at dksX6_lovedOf_0 4 rfl rfl)
theorem dX6_lovedOf_7 : decode cX6_lovedOf 7 = .ok (.bipush 8, 2) := dk_16 8 (dk_at dksX6_lovedOf_0 7 rfl rfl)
theorem dX6_lovedOf_9 : decode cX6_lovedOf 9 = .ok (.iload_n 2, 1) := dk_28 (dk_at dksX6_lovedOf_0 9 rfl rfl)
theorem dX6_lovedOf_10 : decode cX6_lovedOf 10 = .ok (.imul, 1) := dk_104 (dk_at dksX6_lovedOf_0 10 rfl rfl)
theorem dX6_lovedOf_11 : decode cX6_lovedOf 11 = .ok (.iadd, 1) := dk_96 (dk_at dksX6_lovedOf_0 11 rfl rfl)
theorem dX6_lovedOf_12 : decode cX6_lovedOf 12 = .ok (.iload_n 1, 1) := dk_27 (dk_at dksX6_lovedOf_0 12 rfl rfl)
theorem dX6_lovedOf_13 : decode cX6_lovedOf 13 = .ok (.iadd, 1) := dk_96 (dk_at dksX6_lovedOf_0 13 rfl rfl)
theorem dX6_lovedOf_14 : decode cX6_lovedOf 14 = .ok (.iaload, 1) := dk_46 (dk_at dksX6_lovedOf_0 14 rfl rfl)
theorem dX6_lovedOf_15 : decode cX6_lovedOf 15 = .ok (.ireturn, 1) := dk_172 (dk_at dksX6_lovedOf_0 15 rfl rfl)
abbrev cX6_booked : ByteArray := prog_19_method_68_code
def yX6_booked : MethodName := ⟨RX6, "booked", "(II)I"⟩
def dkwX6_booked_1 : List UInt8 := [42, 180, 0, 54, 158, 0, 7, 3, 167, 0, 9, 42, 27, 28, 182, 1, 15, 172]
abbrev dktX6_booked_1 : List UInt8 := dkwX6_booked_1 ++ []
def dkwX6_booked_0 : List UInt8 := [42, 42, 27, 182, 1, 54, 153, 0, 10, 28, 184, 1, 75, 154, 0, 7, 4, 167, 0, 4, 3, 181, 0, 54]
abbrev dktX6_booked_0 : List UInt8 := dkwX6_booked_0 ++ dktX6_booked_1
theorem dksX6_booked_0 : cX6_booked.data.toList.drop 0 = dktX6_booked_0 := by decide +kernel
theorem dksX6_booked_1 : cX6_booked.data.toList.drop 24 = dktX6_booked_1 := dk_seg dksX6_booked_0 24 rfl rfl
theorem dX6_booked_0 : decode cX6_booked 0 = .ok (.aload_n 0, 1) := dk_42 (dk_at dksX6_booked_0 0 rfl rfl)
theorem dX6_booked_1 : decode cX6_booked 1 = .ok (.aload_n 0, 1) := dk_42 (dk_at dksX6_booked_0 1 rfl rfl)
theorem dX6_booked_2 : decode cX6_booked 2 = .ok (.iload_n 1, 1) := dk_27 (dk_at dksX6_booked_0 2 rfl rfl)
theorem dX6_booked_3 : decode cX6_booked 3 = .ok (.invokevirtual 310, 3) := dk_182 1 54 (dk_at dksX6_booked_0 3 rfl rfl)
theorem dX6_booked_6 : decode cX6_booked 6 = .ok (.ifCond .eq 10, 3) := dk_153 0 10 (dk_at dksX6_booked_0 6 rfl rfl)
theorem dX6_booked_9 : decode cX6_booked 9 = .ok (.iload_n 2, 1) := dk_28 (dk_at dksX6_booked_0 9 rfl rfl)
theorem dX6_booked_10 : decode cX6_booked 10 = .ok (.invokestatic 331, 3) := dk_184 1 75 (dk_at dksX6_booked_0 10 rfl rfl)
theorem dX6_booked_13 : decode cX6_booked 13 = .ok (.ifCond .ne 7, 3) := dk_154 0 7 (dk_at dksX6_booked_0 13 rfl rfl)
theorem dX6_booked_16 : decode cX6_booked 16 = .ok (.iconst 1, 1) := dk_4 (dk_at dksX6_booked_0 16 rfl rfl)
theorem dX6_booked_17 : decode cX6_booked 17 = .ok (.goto 4, 3) := dk_167 0 4 (dk_at dksX6_booked_0 17 rfl rfl)
theorem dX6_booked_20 : decode cX6_booked 20 = .ok (.iconst 0, 1) := dk_3 (dk_at dksX6_booked_0 20 rfl rfl)
theorem dX6_booked_21 : decode cX6_booked 21 = .ok (.putfield 54, 3) := dk_181 0 54 (dk_at dksX6_booked_0 21 rfl rfl)
theorem dX6_booked_24 : decode cX6_booked 24 = .ok (.aload_n 0, 1) := dk_42 (dk_at dksX6_booked_1 0 rfl rfl)
theorem dX6_booked_25 : decode cX6_booked 25 = .ok (.getfield 54, 3) := dk_180 0 54 (dk_at dksX6_booked_1 1 rfl rfl)
theorem dX6_booked_28 : decode cX6_booked 28 = .ok (.ifCond .le 7, 3) := dk_158 0 7 (dk_at dksX6_booked_1 4 rfl rfl)
theorem dX6_booked_31 : decode cX6_booked 31 = .ok (.iconst 0, 1) := dk_3 (dk_at dksX6_booked_1 7 rfl rfl)
theorem dX6_booked_32 : decode cX6_booked 32 = .ok (.goto 9, 3) := dk_167 0 9 (dk_at dksX6_booked_1 8 rfl rfl)
theorem dX6_booked_35 : decode cX6_booked 35 = .ok (.aload_n 0, 1) := dk_42 (dk_at dksX6_booked_1 11 rfl rfl)
theorem dX6_booked_36 : decode cX6_booked 36 = .ok (.iload_n 1, 1) := dk_27 (dk_at dksX6_booked_1 12 rfl rfl)
theorem dX6_booked_37 : decode cX6_booked 37 = .ok (.iload_n 2, 1) := dk_28 (dk_at dksX6_booked_1 13 rfl rfl)
theorem dX6_booked_38 : decode cX6_booked 38 = .ok (.invokevirtual 271, 3) := dk_182 1 15 (dk_at dksX6_booked_1 14 rfl rfl)
theorem dX6_booked_41 : decode cX6_booked 41 = .ok (.ireturn, 1) := dk_172 (dk_at dksX6_booked_1 17 rfl rfl)
abbrev cX6_isQuarter : ByteArray := prog_19_method_16_code
def yX6_isQuarter : MethodName := ⟨RX6, "isQuarter", "(I)Z"⟩
def dkwX6_isQuarter_0 : List UInt8 := [26, 3, 16, 7, 184, 0, 57, 172]
abbrev dktX6_isQuarter_0 : List UInt8 := dkwX6_isQuarter_0 ++ []
theorem dksX6_isQuarter_0 : cX6_isQuarter.data.toList.drop 0 = dktX6_isQuarter_0 := by decide +kernel
theorem dX6_isQuarter_0 : decode cX6_isQuarter 0 = .ok (.iload_n 0, 1) := dk_26 (dk_at dksX6_isQuarter_0 0 rfl rfl)
theorem dX6_isQuarter_1 : decode cX6_isQuarter 1 = .ok (.iconst 0, 1) := dk_3 (dk_at dksX6_isQuarter_0 1 rfl rfl)
theorem dX6_isQuarter_2 : decode cX6_isQuarter 2 = .ok (.bipush 7, 2) := dk_16 7 (dk_at dksX6_isQuarter_0 2 rfl rfl)
theorem dX6_isQuarter_4 : decode cX6_isQuarter 4 = .ok (.invokestatic 57, 3) := dk_184 0 57 (dk_at dksX6_isQuarter_0 4 rfl rfl)
theorem dX6_isQuarter_7 : decode cX6_isQuarter 7 = .ok (.ireturn, 1) := dk_172 (dk_at dksX6_isQuarter_0 7 rfl rfl)
abbrev cX6_can : ByteArray := prog_19_method_70_code
def yX6_can : MethodName := ⟨RX6, "can", "(III)Z"⟩
def dkwX6_can_1 : List UInt8 := [3, 172]
abbrev dktX6_can_1 : List UInt8 := dkwX6_can_1 ++ []
def dkwX6_can_0 : List UInt8 := [42, 27, 28, 29, 182, 1, 78, 153, 0, 17, 42, 27, 28, 29, 182, 1, 24, 153, 0, 7, 4, 167, 0, 4]
abbrev dktX6_can_0 : List UInt8 := dkwX6_can_0 ++ dktX6_can_1
theorem dksX6_can_0 : cX6_can.data.toList.drop 0 = dktX6_can_0 := by decide +kernel
theorem dksX6_can_1 : cX6_can.data.toList.drop 24 = dktX6_can_1 := dk_seg dksX6_can_0 24 rfl rfl
theorem dX6_can_0 : decode cX6_can 0 = .ok (.aload_n 0, 1) := dk_42 (dk_at dksX6_can_0 0 rfl rfl)
theorem dX6_can_1 : decode cX6_can 1 = .ok (.iload_n 1, 1) := dk_27 (dk_at dksX6_can_0 1 rfl rfl)
theorem dX6_can_2 : decode cX6_can 2 = .ok (.iload_n 2, 1) := dk_28 (dk_at dksX6_can_0 2 rfl rfl)
theorem dX6_can_3 : decode cX6_can 3 = .ok (.iload_n 3, 1) := dk_29 (dk_at dksX6_can_0 3 rfl rfl)
theorem dX6_can_4 : decode cX6_can 4 = .ok (.invokevirtual 334, 3) := dk_182 1 78 (dk_at dksX6_can_0 4 rfl rfl)
theorem dX6_can_7 : decode cX6_can 7 = .ok (.ifCond .eq 17, 3) := dk_153 0 17 (dk_at dksX6_can_0 7 rfl rfl)
theorem dX6_can_10 : decode cX6_can 10 = .ok (.aload_n 0, 1) := dk_42 (dk_at dksX6_can_0 10 rfl rfl)
theorem dX6_can_11 : decode cX6_can 11 = .ok (.iload_n 1, 1) := dk_27 (dk_at dksX6_can_0 11 rfl rfl)
theorem dX6_can_12 : decode cX6_can 12 = .ok (.iload_n 2, 1) := dk_28 (dk_at dksX6_can_0 12 rfl rfl)
theorem dX6_can_13 : decode cX6_can 13 = .ok (.iload_n 3, 1) := dk_29 (dk_at dksX6_can_0 13 rfl rfl)
theorem dX6_can_14 : decode cX6_can 14 = .ok (.invokevirtual 280, 3) := dk_182 1 24 (dk_at dksX6_can_0 14 rfl rfl)
theorem dX6_can_17 : decode cX6_can 17 = .ok (.ifCond .eq 7, 3) := dk_153 0 7 (dk_at dksX6_can_0 17 rfl rfl)
theorem dX6_can_20 : decode cX6_can 20 = .ok (.iconst 1, 1) := dk_4 (dk_at dksX6_can_0 20 rfl rfl)
theorem dX6_can_21 : decode cX6_can 21 = .ok (.goto 4, 3) := dk_167 0 4 (dk_at dksX6_can_0 21 rfl rfl)
theorem dX6_can_24 : decode cX6_can 24 = .ok (.iconst 0, 1) := dk_3 (dk_at dksX6_can_1 0 rfl rfl)
theorem dX6_can_25 : decode cX6_can 25 = .ok (.ireturn, 1) := dk_172 (dk_at dksX6_can_1 1 rfl rfl)
abbrev cX6_areThere : ByteArray := prog_19_method_69_code
def yX6_areThere : MethodName := ⟨RX6, "areThere", "(III)Z"⟩
def dkwX6_areThere_1 : List UInt8 := [4, 167, 0, 4, 3, 181, 0, 54, 42, 180, 0, 54, 154, 0, 7, 4, 167, 0, 4, 3, 172]
abbrev dktX6_areThere_1 : List UInt8 := dkwX6_areThere_1 ++ []
def dkwX6_areThere_0 : List UInt8 := [42, 42, 27, 182, 1, 54, 153, 0, 18, 42, 28, 182, 1, 66, 153, 0, 10, 29, 184, 1, 75, 154, 0, 7]
abbrev dktX6_areThere_0 : List UInt8 := dkwX6_areThere_0 ++ dktX6_areThere_1
theorem dksX6_areThere_0 : cX6_areThere.data.toList.drop 0 = dktX6_areThere_0 := by decide +kernel
theorem dksX6_areThere_1 : cX6_areThere.data.toList.drop 24 = dktX6_areThere_1 := dk_seg dksX6_areThere_0 24 rfl rfl
theorem dX6_areThere_0 : decode cX6_areThere 0 = .ok (.aload_n 0, 1) := dk_42 (dk_at dksX6_areThere_0 0 rfl rfl)
theorem dX6_areThere_1 : decode cX6_areThere 1 = .ok (.aload_n 0, 1) := dk_42 (dk_at dksX6_areThere_0 1 rfl rfl)
theorem dX6_areThere_2 : decode cX6_areThere 2 = .ok (.iload_n 1, 1) := dk_27 (dk_at dksX6_areThere_0 2 rfl rfl)
theorem dX6_areThere_3 : decode cX6_areThere 3 = .ok (.invokevirtual 310, 3) := dk_182 1 54 (dk_at dksX6_areThere_0 3 rfl rfl)
theorem dX6_areThere_6 : decode cX6_areThere 6 = .ok (.ifCond .eq 18, 3) := dk_153 0 18 (dk_at dksX6_areThere_0 6 rfl rfl)
theorem dX6_areThere_9 : decode cX6_areThere 9 = .ok (.aload_n 0, 1) := dk_42 (dk_at dksX6_areThere_0 9 rfl rfl)
theorem dX6_areThere_10 : decode cX6_areThere 10 = .ok (.iload_n 2, 1) := dk_28 (dk_at dksX6_areThere_0 10 rfl rfl)
theorem dX6_areThere_11 : decode cX6_areThere 11 = .ok (.invokevirtual 322, 3) := dk_182 1 66 (dk_at dksX6_areThere_0 11 rfl rfl)
theorem dX6_areThere_14 : decode cX6_areThere 14 = .ok (.ifCond .eq 10, 3) := dk_153 0 10 (dk_at dksX6_areThere_0 14 rfl rfl)
theorem dX6_areThere_17 : decode cX6_areThere 17 = .ok (.iload_n 3, 1) := dk_29 (dk_at dksX6_areThere_0 17 rfl rfl)
theorem dX6_areThere_18 : decode cX6_areThere 18 = .ok (.invokestatic 331, 3) := dk_184 1 75 (dk_at dksX6_areThere_0 18 rfl rfl)
theorem dX6_areThere_21 : decode cX6_areThere 21 = .ok (.ifCond .ne 7, 3) := dk_154 0 7 (dk_at dksX6_areThere_0 21 rfl rfl)
theorem dX6_areThere_24 : decode cX6_areThere 24 = .ok (.iconst 1, 1) := dk_4 (dk_at dksX6_areThere_1 0 rfl rfl)
theorem dX6_areThere_25 : decode cX6_areThere 25 = .ok (.goto 4, 3) := dk_167 0 4 (dk_at dksX6_areThere_1 1 rfl rfl)
theorem dX6_areThere_28 : decode cX6_areThere 28 = .ok (.iconst 0, 1) := dk_3 (dk_at dksX6_areThere_1 4 rfl rfl)
theorem dX6_areThere_29 : decode cX6_areThere 29 = .ok (.putfield 54, 3) := dk_181 0 54 (dk_at dksX6_areThere_1 5 rfl rfl)
theorem dX6_areThere_32 : decode cX6_areThere 32 = .ok (.aload_n 0, 1) := dk_42 (dk_at dksX6_areThere_1 8 rfl rfl)
theorem dX6_areThere_33 : decode cX6_areThere 33 = .ok (.getfield 54, 3) := dk_180 0 54 (dk_at dksX6_areThere_1 9 rfl rfl)
theorem dX6_areThere_36 : decode cX6_areThere 36 = .ok (.ifCond .ne 7, 3) := dk_154 0 7 (dk_at dksX6_areThere_1 12 rfl rfl)
theorem dX6_areThere_39 : decode cX6_areThere 39 = .ok (.iconst 1, 1) := dk_4 (dk_at dksX6_areThere_1 15 rfl rfl)
theorem dX6_areThere_40 : decode cX6_areThere 40 = .ok (.goto 4, 3) := dk_167 0 4 (dk_at dksX6_areThere_1 16 rfl rfl)
theorem dX6_areThere_43 : decode cX6_areThere 43 = .ok (.iconst 0, 1) := dk_3 (dk_at dksX6_areThere_1 19 rfl rfl)
theorem dX6_areThere_44 : decode cX6_areThere 44 = .ok (.ireturn, 1) := dk_172 (dk_at dksX6_areThere_1 20 rfl rfl)
abbrev cX6_canMeet : ByteArray := prog_19_method_19_code
def yX6_canMeet : MethodName := ⟨RX6, "canMeet", "(III)Z"⟩
def dkwX6_canMeet_1 : List UInt8 := [182, 0, 78, 153, 0, 7, 4, 167, 0, 4, 3, 172]
abbrev dktX6_canMeet_1 : List UInt8 := dkwX6_canMeet_1 ++ []
def dkwX6_canMeet_0 : List UInt8 := [42, 27, 4, 182, 0, 68, 42, 28, 4, 182, 0, 71, 126, 29, 184, 0, 74, 153, 0, 16, 42, 27, 28]
abbrev dktX6_canMeet_0 : List UInt8 := dkwX6_canMeet_0 ++ dktX6_canMeet_1
theorem dksX6_canMeet_0 : cX6_canMeet.data.toList.drop 0 = dktX6_canMeet_0 := by decide +kernel
theorem dksX6_canMeet_1 : cX6_canMeet.data.toList.drop 23 = dktX6_canMeet_1 := dk_seg dksX6_canMeet_0 23 rfl rfl
theorem dX6_canMeet_0 : decode cX6_canMeet 0 = .ok (.aload_n 0, 1) := dk_42 (dk_at dksX6_canMeet_0 0 rfl rfl)
theorem dX6_canMeet_1 : decode cX6_canMeet 1 = .ok (.iload_n 1, 1) := dk_27 (dk_at dksX6_canMeet_0 1 rfl rfl)
theorem dX6_canMeet_2 : decode cX6_canMeet 2 = .ok (.iconst 1, 1) := dk_4 (dk_at dksX6_canMeet_0 2 rfl rfl)
theorem dX6_canMeet_3 : decode cX6_canMeet 3 = .ok (.invokevirtual 68, 3) := dk_182 0 68 (dk_at dksX6_canMeet_0 3 rfl rfl)
theorem dX6_canMeet_6 : decode cX6_canMeet 6 = .ok (.aload_n 0, 1) := dk_42 (dk_at dksX6_canMeet_0 6 rfl rfl)
theorem dX6_canMeet_7 : decode cX6_canMeet 7 = .ok (.iload_n 2, 1) := dk_28 (dk_at dksX6_canMeet_0 7 rfl rfl)
theorem dX6_canMeet_8 : decode cX6_canMeet 8 = .ok (.iconst 1, 1) := dk_4 (dk_at dksX6_canMeet_0 8 rfl rfl)
theorem dX6_canMeet_9 : decode cX6_canMeet 9 = .ok (.invokevirtual 71, 3) := dk_182 0 71 (dk_at dksX6_canMeet_0 9 rfl rfl)
theorem dX6_canMeet_12 : decode cX6_canMeet 12 = .ok (.iand, 1) := dk_126 (dk_at dksX6_canMeet_0 12 rfl rfl)
theorem dX6_canMeet_13 : decode cX6_canMeet 13 = .ok (.iload_n 3, 1) := dk_29 (dk_at dksX6_canMeet_0 13 rfl rfl)
theorem dX6_canMeet_14 : decode cX6_canMeet 14 = .ok (.invokestatic 74, 3) := dk_184 0 74 (dk_at dksX6_canMeet_0 14 rfl rfl)
theorem dX6_canMeet_17 : decode cX6_canMeet 17 = .ok (.ifCond .eq 16, 3) := dk_153 0 16 (dk_at dksX6_canMeet_0 17 rfl rfl)
theorem dX6_canMeet_20 : decode cX6_canMeet 20 = .ok (.aload_n 0, 1) := dk_42 (dk_at dksX6_canMeet_0 20 rfl rfl)
theorem dX6_canMeet_21 : decode cX6_canMeet 21 = .ok (.iload_n 1, 1) := dk_27 (dk_at dksX6_canMeet_0 21 rfl rfl)
theorem dX6_canMeet_22 : decode cX6_canMeet 22 = .ok (.iload_n 2, 1) := dk_28 (dk_at dksX6_canMeet_0 22 rfl rfl)
theorem dX6_canMeet_23 : decode cX6_canMeet 23 = .ok (.invokevirtual 78, 3) := dk_182 0 78 (dk_at dksX6_canMeet_1 0 rfl rfl)
theorem dX6_canMeet_26 : decode cX6_canMeet 26 = .ok (.ifCond .eq 7, 3) := dk_153 0 7 (dk_at dksX6_canMeet_1 3 rfl rfl)
theorem dX6_canMeet_29 : decode cX6_canMeet 29 = .ok (.iconst 1, 1) := dk_4 (dk_at dksX6_canMeet_1 6 rfl rfl)
theorem dX6_canMeet_30 : decode cX6_canMeet 30 = .ok (.goto 4, 3) := dk_167 0 4 (dk_at dksX6_canMeet_1 7 rfl rfl)
theorem dX6_canMeet_33 : decode cX6_canMeet 33 = .ok (.iconst 0, 1) := dk_3 (dk_at dksX6_canMeet_1 10 rfl rfl)
theorem dX6_canMeet_34 : decode cX6_canMeet 34 = .ok (.ireturn, 1) := dk_172 (dk_at dksX6_canMeet_1 11 rfl rfl)
abbrev cX6_mayMeet : ByteArray := prog_19_method_18_code
def yX6_mayMeet : MethodName := ⟨RX6, "mayMeet", "(II)Z"⟩
def dkwX6_mayMeet_0 : List UInt8 := [42, 27, 28, 182, 0, 61, 158, 0, 16, 42, 27, 28, 182, 0, 65, 158, 0, 7, 4, 167, 0, 4, 3, 172]
abbrev dktX6_mayMeet_0 : List UInt8 := dkwX6_mayMeet_0 ++ []
theorem dksX6_mayMeet_0 : cX6_mayMeet.data.toList.drop 0 = dktX6_mayMeet_0 := by decide +kernel
theorem dX6_mayMeet_0 : decode cX6_mayMeet 0 = .ok (.aload_n 0, 1) := dk_42 (dk_at dksX6_mayMeet_0 0 rfl rfl)
theorem dX6_mayMeet_1 : decode cX6_mayMeet 1 = .ok (.iload_n 1, 1) := dk_27 (dk_at dksX6_mayMeet_0 1 rfl rfl)
theorem dX6_mayMeet_2 : decode cX6_mayMeet 2 = .ok (.iload_n 2, 1) := dk_28 (dk_at dksX6_mayMeet_0 2 rfl rfl)
theorem dX6_mayMeet_3 : decode cX6_mayMeet 3 = .ok (.invokevirtual 61, 3) := dk_182 0 61 (dk_at dksX6_mayMeet_0 3 rfl rfl)
theorem dX6_mayMeet_6 : decode cX6_mayMeet 6 = .ok (.ifCond .le 16, 3) := dk_158 0 16 (dk_at dksX6_mayMeet_0 6 rfl rfl)
theorem dX6_mayMeet_9 : decode cX6_mayMeet 9 = .ok (.aload_n 0, 1) := dk_42 (dk_at dksX6_mayMeet_0 9 rfl rfl)
theorem dX6_mayMeet_10 : decode cX6_mayMeet 10 = .ok (.iload_n 1, 1) := dk_27 (dk_at dksX6_mayMeet_0 10 rfl rfl)
theorem dX6_mayMeet_11 : decode cX6_mayMeet 11 = .ok (.iload_n 2, 1) := dk_28 (dk_at dksX6_mayMeet_0 11 rfl rfl)
theorem dX6_mayMeet_12 : decode cX6_mayMeet 12 = .ok (.invokevirtual 65, 3) := dk_182 0 65 (dk_at dksX6_mayMeet_0 12 rfl rfl)
theorem dX6_mayMeet_15 : decode cX6_mayMeet 15 = .ok (.ifCond .le 7, 3) := dk_158 0 7 (dk_at dksX6_mayMeet_0 15 rfl rfl)
theorem dX6_mayMeet_18 : decode cX6_mayMeet 18 = .ok (.iconst 1, 1) := dk_4 (dk_at dksX6_mayMeet_0 18 rfl rfl)
theorem dX6_mayMeet_19 : decode cX6_mayMeet 19 = .ok (.goto 4, 3) := dk_167 0 4 (dk_at dksX6_mayMeet_0 19 rfl rfl)
theorem dX6_mayMeet_22 : decode cX6_mayMeet 22 = .ok (.iconst 0, 1) := dk_3 (dk_at dksX6_mayMeet_0 22 rfl rfl)
theorem dX6_mayMeet_23 : decode cX6_mayMeet 23 = .ok (.ireturn, 1) := dk_172 (dk_at dksX6_mayMeet_0 23 rfl rfl)
abbrev cX6_lets : ByteArray := prog_19_method_71_code
def yX6_lets : MethodName := ⟨RX6, "lets", "(III)Z"⟩
def dkwX6_lets_1 : List UInt8 := [3, 172]
abbrev dktX6_lets_1 : List UInt8 := dkwX6_lets_1 ++ []
def dkwX6_lets_0 : List UInt8 := [42, 27, 28, 29, 182, 1, 78, 153, 0, 17, 42, 27, 28, 29, 182, 1, 27, 153, 0, 7, 4, 167, 0, 4]
abbrev dktX6_lets_0 : List UInt8 := dkwX6_lets_0 ++ dktX6_lets_1
theorem dksX6_lets_0 : cX6_lets.data.toList.drop 0 = dktX6_lets_0 := by decide +kernel
theorem dksX6_lets_1 : cX6_lets.data.toList.drop 24 = dktX6_lets_1 := dk_seg dksX6_lets_0 24 rfl rfl
theorem dX6_lets_0 : decode cX6_lets 0 = .ok (.aload_n 0, 1) := dk_42 (dk_at dksX6_lets_0 0 rfl rfl)
theorem dX6_lets_1 : decode cX6_lets 1 = .ok (.iload_n 1, 1) := dk_27 (dk_at dksX6_lets_0 1 rfl rfl)
theorem dX6_lets_2 : decode cX6_lets 2 = .ok (.iload_n 2, 1) := dk_28 (dk_at dksX6_lets_0 2 rfl rfl)
theorem dX6_lets_3 : decode cX6_lets 3 = .ok (.iload_n 3, 1) := dk_29 (dk_at dksX6_lets_0 3 rfl rfl)
theorem dX6_lets_4 : decode cX6_lets 4 = .ok (.invokevirtual 334, 3) := dk_182 1 78 (dk_at dksX6_lets_0 4 rfl rfl)
theorem dX6_lets_7 : decode cX6_lets 7 = .ok (.ifCond .eq 17, 3) := dk_153 0 17 (dk_at dksX6_lets_0 7 rfl rfl)
theorem dX6_lets_10 : decode cX6_lets 10 = .ok (.aload_n 0, 1) := dk_42 (dk_at dksX6_lets_0 10 rfl rfl)
theorem dX6_lets_11 : decode cX6_lets 11 = .ok (.iload_n 1, 1) := dk_27 (dk_at dksX6_lets_0 11 rfl rfl)
theorem dX6_lets_12 : decode cX6_lets 12 = .ok (.iload_n 2, 1) := dk_28 (dk_at dksX6_lets_0 12 rfl rfl)
theorem dX6_lets_13 : decode cX6_lets 13 = .ok (.iload_n 3, 1) := dk_29 (dk_at dksX6_lets_0 13 rfl rfl)
theorem dX6_lets_14 : decode cX6_lets 14 = .ok (.invokevirtual 283, 3) := dk_182 1 27 (dk_at dksX6_lets_0 14 rfl rfl)
theorem dX6_lets_17 : decode cX6_lets 17 = .ok (.ifCond .eq 7, 3) := dk_153 0 7 (dk_at dksX6_lets_0 17 rfl rfl)
theorem dX6_lets_20 : decode cX6_lets 20 = .ok (.iconst 1, 1) := dk_4 (dk_at dksX6_lets_0 20 rfl rfl)
theorem dX6_lets_21 : decode cX6_lets 21 = .ok (.goto 4, 3) := dk_167 0 4 (dk_at dksX6_lets_0 21 rfl rfl)
theorem dX6_lets_24 : decode cX6_lets 24 = .ok (.iconst 0, 1) := dk_3 (dk_at dksX6_lets_1 0 rfl rfl)
theorem dX6_lets_25 : decode cX6_lets 25 = .ok (.ireturn, 1) := dk_172 (dk_at dksX6_lets_1 1 rfl rfl)
abbrev cX6_isLet : ByteArray := prog_19_method_52_code
def yX6_isLet : MethodName := ⟨RX6, "isLet", "(III)Z"⟩
def dkwX6_isLet_1 : List UInt8 := [180, 0, 221, 172]
abbrev dktX6_isLet_1 : List UInt8 := dkwX6_isLet_1 ++ []
def dkwX6_isLet_0 : List UInt8 := [42, 27, 28, 29, 182, 1, 18, 42, 180, 1, 4, 153, 0, 10, 42, 180, 1, 7, 167, 0, 7, 42]
abbrev dktX6_isLet_0 : List UInt8 := dkwX6_isLet_0 ++ dktX6_isLet_1
theorem dksX6_isLet_0 : cX6_isLet.data.toList.drop 0 = dktX6_isLet_0 := by decide +kernel
theorem dksX6_isLet_1 : cX6_isLet.data.toList.drop 22 = dktX6_isLet_1 := dk_seg dksX6_isLet_0 22 rfl rfl
theorem dX6_isLet_0 : decode cX6_isLet 0 = .ok (.aload_n 0, 1) := dk_42 (dk_at dksX6_isLet_0 0 rfl rfl)
theorem dX6_isLet_1 : decode cX6_isLet 1 = .ok (.iload_n 1, 1) := dk_27 (dk_at dksX6_isLet_0 1 rfl rfl)
theorem dX6_isLet_2 : decode cX6_isLet 2 = .ok (.iload_n 2, 1) := dk_28 (dk_at dksX6_isLet_0 2 rfl rfl)
theorem dX6_isLet_3 : decode cX6_isLet 3 = .ok (.iload_n 3, 1) := dk_29 (dk_at dksX6_isLet_0 3 rfl rfl)
theorem dX6_isLet_4 : decode cX6_isLet 4 = .ok (.invokevirtual 274, 3) := dk_182 1 18 (dk_at dksX6_isLet_0 4 rfl rfl)
theorem dX6_isLet_7 : decode cX6_isLet 7 = .ok (.aload_n 0, 1) := dk_42 (dk_at dksX6_isLet_0 7 rfl rfl)
theorem dX6_isLet_8 : decode cX6_isLet 8 = .ok (.getfield 260, 3) := dk_180 1 4 (dk_at dksX6_isLet_0 8 rfl rfl)
theorem dX6_isLet_11 : decode cX6_isLet 11 = .ok (.ifCond .eq 10, 3) := dk_153 0 10 (dk_at dksX6_isLet_0 11 rfl rfl)
theorem dX6_isLet_14 : decode cX6_isLet 14 = .ok (.aload_n 0, 1) := dk_42 (dk_at dksX6_isLet_0 14 rfl rfl)
theorem dX6_isLet_15 : decode cX6_isLet 15 = .ok (.getfield 263, 3) := dk_180 1 7 (dk_at dksX6_isLet_0 15 rfl rfl)
theorem dX6_isLet_18 : decode cX6_isLet 18 = .ok (.goto 7, 3) := dk_167 0 7 (dk_at dksX6_isLet_0 18 rfl rfl)
theorem dX6_isLet_21 : decode cX6_isLet 21 = .ok (.aload_n 0, 1) := dk_42 (dk_at dksX6_isLet_0 21 rfl rfl)
theorem dX6_isLet_22 : decode cX6_isLet 22 = .ok (.getfield 221, 3) := dk_180 0 221 (dk_at dksX6_isLet_1 0 rfl rfl)
theorem dX6_isLet_25 : decode cX6_isLet 25 = .ok (.ireturn, 1) := dk_172 (dk_at dksX6_isLet_1 3 rfl rfl)
abbrev cX6_asks : ByteArray := prog_19_method_51_code
def yX6_asks : MethodName := ⟨RX6, "asks", "(III)V"⟩
def dkwX6_asks_7 : List UInt8 := [181, 0, 87, 42, 3, 181, 0, 179, 42, 4, 182, 0, 198, 54, 5, 42, 21, 4, 181, 0, 25, 177]
abbrev dktX6_asks_7 : List UInt8 := dkwX6_asks_7 ++ []
def dkwX6_asks_6 : List UInt8 := [181, 0, 25, 42, 17, 2, 107, 181, 0, 84, 42, 42, 180, 0, 7, 5, 46, 181, 0, 90, 42, 3]
abbrev dktX6_asks_6 : List UInt8 := dkwX6_asks_6 ++ dktX6_asks_7
def dkwX6_asks_5 : List UInt8 := [182, 1, 15, 28, 160, 0, 7, 4, 167, 0, 4, 3, 181, 0, 227, 42, 180, 0, 25, 54, 4, 42, 2]
abbrev dktX6_asks_5 : List UInt8 := dkwX6_asks_5 ++ dktX6_asks_6
def dkwX6_asks_4 : List UInt8 := [182, 0, 65, 79, 42, 180, 0, 29, 16, 6, 42, 180, 0, 7, 16, 6, 46, 79, 42, 42, 27, 29]
abbrev dktX6_asks_4 : List UInt8 := dkwX6_asks_4 ++ dktX6_asks_5
def dkwX6_asks_3 : List UInt8 := [182, 0, 68, 79, 42, 180, 0, 29, 7, 42, 27, 28, 182, 0, 61, 79, 42, 180, 0, 29, 8, 42, 27, 28]
abbrev dktX6_asks_3 : List UInt8 := dkwX6_asks_3 ++ dktX6_asks_4
def dkwX6_asks_2 : List UInt8 := [42, 180, 0, 29, 4, 28, 79, 42, 180, 0, 29, 5, 29, 79, 42, 180, 0, 29, 6, 42, 27, 6]
abbrev dktX6_asks_2 : List UInt8 := dkwX6_asks_2 ++ dktX6_asks_3
def dkwX6_asks_1 : List UInt8 := [182, 1, 12, 181, 0, 221, 42, 180, 0, 7, 4, 46, 4, 162, 0, 4, 177, 42, 180, 0, 29, 3, 27, 79]
abbrev dktX6_asks_1 : List UInt8 := dkwX6_asks_1 ++ dktX6_asks_2
def dkwX6_asks_0 : List UInt8 := [42, 3, 181, 1, 10, 42, 3, 181, 1, 4, 42, 3, 181, 1, 7, 42, 42, 42, 28, 5, 182, 0, 71]
abbrev dktX6_asks_0 : List UInt8 := dkwX6_asks_0 ++ dktX6_asks_1
theorem dksX6_asks_0 : cX6_asks.data.toList.drop 0 = dktX6_asks_0 := by decide +kernel
theorem dksX6_asks_1 : cX6_asks.data.toList.drop 23 = dktX6_asks_1 := dk_seg dksX6_asks_0 23 rfl rfl
theorem dksX6_asks_2 : cX6_asks.data.toList.drop 47 = dktX6_asks_2 := dk_seg dksX6_asks_1 24 rfl rfl
theorem dksX6_asks_3 : cX6_asks.data.toList.drop 69 = dktX6_asks_3 := dk_seg dksX6_asks_2 22 rfl rfl
theorem dksX6_asks_4 : cX6_asks.data.toList.drop 93 = dktX6_asks_4 := dk_seg dksX6_asks_3 24 rfl rfl
theorem dksX6_asks_5 : cX6_asks.data.toList.drop 115 = dktX6_asks_5 := dk_seg dksX6_asks_4 22 rfl rfl
theorem dksX6_asks_6 : cX6_asks.data.toList.drop 138 = dktX6_asks_6 := dk_seg dksX6_asks_5 23 rfl rfl
theorem dksX6_asks_7 : cX6_asks.data.toList.drop 160 = dktX6_asks_7 := dk_seg dksX6_asks_6 22 rfl rfl
theorem dX6_asks_0 : decode cX6_asks 0 = .ok (.aload_n 0, 1) := dk_42 (dk_at dksX6_asks_0 0 rfl rfl)
theorem dX6_asks_1 : decode cX6_asks 1 = .ok (.iconst 0, 1) := dk_3 (dk_at dksX6_asks_0 1 rfl rfl)
theorem dX6_asks_2 : decode cX6_asks 2 = .ok (.putfield 266, 3) := dk_181 1 10 (dk_at dksX6_asks_0 2 rfl rfl)
theorem dX6_asks_5 : decode cX6_asks 5 = .ok (.aload_n 0, 1) := dk_42 (dk_at dksX6_asks_0 5 rfl rfl)
theorem dX6_asks_6 : decode cX6_asks 6 = .ok (.iconst 0, 1) := dk_3 (dk_at dksX6_asks_0 6 rfl rfl)
theorem dX6_asks_7 : decode cX6_asks 7 = .ok (.putfield 260, 3) := dk_181 1 4 (dk_at dksX6_asks_0 7 rfl rfl)
theorem dX6_asks_10 : decode cX6_asks 10 = .ok (.aload_n 0, 1) := dk_42 (dk_at dksX6_asks_0 10 rfl rfl)
theorem dX6_asks_11 : decode cX6_asks 11 = .ok (.iconst 0, 1) := dk_3 (dk_at dksX6_asks_0 11 rfl rfl)
theorem dX6_asks_12 : decode cX6_asks 12 = .ok (.putfield 263, 3) := dk_181 1 7 (dk_at dksX6_asks_0 12 rfl rfl)
theorem dX6_asks_15 : decode cX6_asks 15 = .ok (.aload_n 0, 1) := dk_42 (dk_at dksX6_asks_0 15 rfl rfl)
theorem dX6_asks_16 : decode cX6_asks 16 = .ok (.aload_n 0, 1) := dk_42 (dk_at dksX6_asks_0 16 rfl rfl)
theorem dX6_asks_17 : decode cX6_asks 17 = .ok (.aload_n 0, 1) := dk_42 (dk_at dksX6_asks_0 17 rfl rfl)
theorem dX6_asks_18 : decode cX6_asks 18 = .ok (.iload_n 2, 1) := dk_28 (dk_at dksX6_asks_0 18 rfl rfl)
theorem dX6_asks_19 : decode cX6_asks 19 = .ok (.iconst 2, 1) := dk_5 (dk_at dksX6_asks_0 19 rfl rfl)
theorem dX6_asks_20 : decode cX6_asks 20 = .ok (.invokevirtual 71, 3) := dk_182 0 71 (dk_at dksX6_asks_0 20 rfl rfl)
theorem dX6_asks_23 : decode cX6_asks 23 = .ok (.invokevirtual 268, 3) := dk_182 1 12 (dk_at dksX6_asks_1 0 rfl rfl)
theorem dX6_asks_26 : decode cX6_asks 26 = .ok (.putfield 221, 3) := dk_181 0 221 (dk_at dksX6_asks_1 3 rfl rfl)
theorem dX6_asks_29 : decode cX6_asks 29 = .ok (.aload_n 0, 1) := dk_42 (dk_at dksX6_asks_1 6 rfl rfl)
theorem dX6_asks_30 : decode cX6_asks 30 = .ok (.getfield 7, 3) := dk_180 0 7 (dk_at dksX6_asks_1 7 rfl rfl)
theorem dX6_asks_33 : decode cX6_asks 33 = .ok (.iconst 1, 1) := dk_4 (dk_at dksX6_asks_1 10 rfl rfl)
theorem dX6_asks_34 : decode cX6_asks 34 = .ok (.iaload, 1) := dk_46 (dk_at dksX6_asks_1 11 rfl rfl)
theorem dX6_asks_35 : decode cX6_asks 35 = .ok (.iconst 1, 1) := dk_4 (dk_at dksX6_asks_1 12 rfl rfl)
theorem dX6_asks_36 : decode cX6_asks 36 = .ok (.if_icmp .ge 4, 3) := dk_162 0 4 (dk_at dksX6_asks_1 13 rfl rfl)
theorem dX6_asks_39 : decode cX6_asks 39 = .ok (.return_, 1) := dk_177 (dk_at dksX6_asks_1 16 rfl rfl)
theorem dX6_asks_40 : decode cX6_asks 40 = .ok (.aload_n 0, 1) := dk_42 (dk_at dksX6_asks_1 17 rfl rfl)
theorem dX6_asks_41 : decode cX6_asks 41 = .ok (.getfield 29, 3) := dk_180 0 29 (dk_at dksX6_asks_1 18 rfl rfl)
theorem dX6_asks_44 : decode cX6_asks 44 = .ok (.iconst 0, 1) := dk_3 (dk_at dksX6_asks_1 21 rfl rfl)
theorem dX6_asks_45 : decode cX6_asks 45 = .ok (.iload_n 1, 1) := dk_27 (dk_at dksX6_asks_1 22 rfl rfl)
theorem dX6_asks_46 : decode cX6_asks 46 = .ok (.iastore, 1) := dk_79 (dk_at dksX6_asks_1 23 rfl rfl)
theorem dX6_asks_47 : decode cX6_asks 47 = .ok (.aload_n 0, 1) := dk_42 (dk_at dksX6_asks_2 0 rfl rfl)
theorem dX6_asks_48 : decode cX6_asks 48 = .ok (.getfield 29, 3) := dk_180 0 29 (dk_at dksX6_asks_2 1 rfl rfl)
theorem dX6_asks_51 : decode cX6_asks 51 = .ok (.iconst 1, 1) := dk_4 (dk_at dksX6_asks_2 4 rfl rfl)
theorem dX6_asks_52 : decode cX6_asks 52 = .ok (.iload_n 2, 1) := dk_28 (dk_at dksX6_asks_2 5 rfl rfl)
theorem dX6_asks_53 : decode cX6_asks 53 = .ok (.iastore, 1) := dk_79 (dk_at dksX6_asks_2 6 rfl rfl)
theorem dX6_asks_54 : decode cX6_asks 54 = .ok (.aload_n 0, 1) := dk_42 (dk_at dksX6_asks_2 7 rfl rfl)
theorem dX6_asks_55 : decode cX6_asks 55 = .ok (.getfield 29, 3) := dk_180 0 29 (dk_at dksX6_asks_2 8 rfl rfl)
theorem dX6_asks_58 : decode cX6_asks 58 = .ok (.iconst 2, 1) := dk_5 (dk_at dksX6_asks_2 11 rfl rfl)
theorem dX6_asks_59 : decode cX6_asks 59 = .ok (.iload_n 3, 1) := dk_29 (dk_at dksX6_asks_2 12 rfl rfl)
theorem dX6_asks_60 : decode cX6_asks 60 = .ok (.iastore, 1) := dk_79 (dk_at dksX6_asks_2 13 rfl rfl)
theorem dX6_asks_61 : decode cX6_asks 61 = .ok (.aload_n 0, 1) := dk_42 (dk_at dksX6_asks_2 14 rfl rfl)
theorem dX6_asks_62 : decode cX6_asks 62 = .ok (.getfield 29, 3) := dk_180 0 29 (dk_at dksX6_asks_2 15 rfl rfl)
theorem dX6_asks_65 : decode cX6_asks 65 = .ok (.iconst 3, 1) := dk_6 (dk_at dksX6_asks_2 18 rfl rfl)
theorem dX6_asks_66 : decode cX6_asks 66 = .ok (.aload_n 0, 1) := dk_42 (dk_at dksX6_asks_2 19 rfl rfl)
theorem dX6_asks_67 : decode cX6_asks 67 = .ok (.iload_n 1, 1) := dk_27 (dk_at dksX6_asks_2 20 rfl rfl)
theorem dX6_asks_68 : decode cX6_asks 68 = .ok (.iconst 3, 1) := dk_6 (dk_at dksX6_asks_2 21 rfl rfl)
theorem dX6_asks_69 : decode cX6_asks 69 = .ok (.invokevirtual 68, 3) := dk_182 0 68 (dk_at dksX6_asks_3 0 rfl rfl)
theorem dX6_asks_72 : decode cX6_asks 72 = .ok (.iastore, 1) := dk_79 (dk_at dksX6_asks_3 3 rfl rfl)
theorem dX6_asks_73 : decode cX6_asks 73 = .ok (.aload_n 0, 1) := dk_42 (dk_at dksX6_asks_3 4 rfl rfl)
theorem dX6_asks_74 : decode cX6_asks 74 = .ok (.getfield 29, 3) := dk_180 0 29 (dk_at dksX6_asks_3 5 rfl rfl)
theorem dX6_asks_77 : decode cX6_asks 77 = .ok (.iconst 4, 1) := dk_7 (dk_at dksX6_asks_3 8 rfl rfl)
theorem dX6_asks_78 : decode cX6_asks 78 = .ok (.aload_n 0, 1) := dk_42 (dk_at dksX6_asks_3 9 rfl rfl)
theorem dX6_asks_79 : decode cX6_asks 79 = .ok (.iload_n 1, 1) := dk_27 (dk_at dksX6_asks_3 10 rfl rfl)
theorem dX6_asks_80 : decode cX6_asks 80 = .ok (.iload_n 2, 1) := dk_28 (dk_at dksX6_asks_3 11 rfl rfl)
theorem dX6_asks_81 : decode cX6_asks 81 = .ok (.invokevirtual 61, 3) := dk_182 0 61 (dk_at dksX6_asks_3 12 rfl rfl)
theorem dX6_asks_84 : decode cX6_asks 84 = .ok (.iastore, 1) := dk_79 (dk_at dksX6_asks_3 15 rfl rfl)
theorem dX6_asks_85 : decode cX6_asks 85 = .ok (.aload_n 0, 1) := dk_42 (dk_at dksX6_asks_3 16 rfl rfl)
theorem dX6_asks_86 : decode cX6_asks 86 = .ok (.getfield 29, 3) := dk_180 0 29 (dk_at dksX6_asks_3 17 rfl rfl)
theorem dX6_asks_89 : decode cX6_asks 89 = .ok (.iconst 5, 1) := dk_8 (dk_at dksX6_asks_3 20 rfl rfl)
theorem dX6_asks_90 : decode cX6_asks 90 = .ok (.aload_n 0, 1) := dk_42 (dk_at dksX6_asks_3 21 rfl rfl)
theorem dX6_asks_91 : decode cX6_asks 91 = .ok (.iload_n 1, 1) := dk_27 (dk_at dksX6_asks_3 22 rfl rfl)
theorem dX6_asks_92 : decode cX6_asks 92 = .ok (.iload_n 2, 1) := dk_28 (dk_at dksX6_asks_3 23 rfl rfl)
theorem dX6_asks_93 : decode cX6_asks 93 = .ok (.invokevirtual 65, 3) := dk_182 0 65 (dk_at dksX6_asks_4 0 rfl rfl)
theorem dX6_asks_96 : decode cX6_asks 96 = .ok (.iastore, 1) := dk_79 (dk_at dksX6_asks_4 3 rfl rfl)
theorem dX6_asks_97 : decode cX6_asks 97 = .ok (.aload_n 0, 1) := dk_42 (dk_at dksX6_asks_4 4 rfl rfl)
theorem dX6_asks_98 : decode cX6_asks 98 = .ok (.getfield 29, 3) := dk_180 0 29 (dk_at dksX6_asks_4 5 rfl rfl)
theorem dX6_asks_101 : decode cX6_asks 101 = .ok (.bipush 6, 2) := dk_16 6 (dk_at dksX6_asks_4 8 rfl rfl)
theorem dX6_asks_103 : decode cX6_asks 103 = .ok (.aload_n 0, 1) := dk_42 (dk_at dksX6_asks_4 10 rfl rfl)
theorem dX6_asks_104 : decode cX6_asks 104 = .ok (.getfield 7, 3) := dk_180 0 7 (dk_at dksX6_asks_4 11 rfl rfl)
theorem dX6_asks_107 : decode cX6_asks 107 = .ok (.bipush 6, 2) := dk_16 6 (dk_at dksX6_asks_4 14 rfl rfl)
theorem dX6_asks_109 : decode cX6_asks 109 = .ok (.iaload, 1) := dk_46 (dk_at dksX6_asks_4 16 rfl rfl)
theorem dX6_asks_110 : decode cX6_asks 110 = .ok (.iastore, 1) := dk_79 (dk_at dksX6_asks_4 17 rfl rfl)
theorem dX6_asks_111 : decode cX6_asks 111 = .ok (.aload_n 0, 1) := dk_42 (dk_at dksX6_asks_4 18 rfl rfl)
theorem dX6_asks_112 : decode cX6_asks 112 = .ok (.aload_n 0, 1) := dk_42 (dk_at dksX6_asks_4 19 rfl rfl)
theorem dX6_asks_113 : decode cX6_asks 113 = .ok (.iload_n 1, 1) := dk_27 (dk_at dksX6_asks_4 20 rfl rfl)
theorem dX6_asks_114 : decode cX6_asks 114 = .ok (.iload_n 3, 1) := dk_29 (dk_at dksX6_asks_4 21 rfl rfl)
theorem dX6_asks_115 : decode cX6_asks 115 = .ok (.invokevirtual 271, 3) := dk_182 1 15 (dk_at dksX6_asks_5 0 rfl rfl)
theorem dX6_asks_118 : decode cX6_asks 118 = .ok (.iload_n 2, 1) := dk_28 (dk_at dksX6_asks_5 3 rfl rfl)
theorem dX6_asks_119 : decode cX6_asks 119 = .ok (.if_icmp .ne 7, 3) := dk_160 0 7 (dk_at dksX6_asks_5 4 rfl rfl)
theorem dX6_asks_122 : decode cX6_asks 122 = .ok (.iconst 1, 1) := dk_4 (dk_at dksX6_asks_5 7 rfl rfl)
theorem dX6_asks_123 : decode cX6_asks 123 = .ok (.goto 4, 3) := dk_167 0 4 (dk_at dksX6_asks_5 8 rfl rfl)
theorem dX6_asks_126 : decode cX6_asks 126 = .ok (.iconst 0, 1) := dk_3 (dk_at dksX6_asks_5 11 rfl rfl)
theorem dX6_asks_127 : decode cX6_asks 127 = .ok (.putfield 227, 3) := dk_181 0 227 (dk_at dksX6_asks_5 12 rfl rfl)
theorem dX6_asks_130 : decode cX6_asks 130 = .ok (.aload_n 0, 1) := dk_42 (dk_at dksX6_asks_5 15 rfl rfl)
theorem dX6_asks_131 : decode cX6_asks 131 = .ok (.getfield 25, 3) := dk_180 0 25 (dk_at dksX6_asks_5 16 rfl rfl)
theorem dX6_asks_134 : decode cX6_asks 134 = .ok (.istore 4, 2) := dk_54 4 (dk_at dksX6_asks_5 19 rfl rfl)
theorem dX6_asks_136 : decode cX6_asks 136 = .ok (.aload_n 0, 1) := dk_42 (dk_at dksX6_asks_5 21 rfl rfl)
theorem dX6_asks_137 : decode cX6_asks 137 = .ok (.iconst (-1), 1) := dk_2 (dk_at dksX6_asks_5 22 rfl rfl)
theorem dX6_asks_138 : decode cX6_asks 138 = .ok (.putfield 25, 3) := dk_181 0 25 (dk_at dksX6_asks_6 0 rfl rfl)
theorem dX6_asks_141 : decode cX6_asks 141 = .ok (.aload_n 0, 1) := dk_42 (dk_at dksX6_asks_6 3 rfl rfl)
theorem dX6_asks_142 : decode cX6_asks 142 = .ok (.sipush 619, 3) := dk_17 2 107 (dk_at dksX6_asks_6 4 rfl rfl)
theorem dX6_asks_145 : decode cX6_asks 145 = .ok (.putfield 84, 3) := dk_181 0 84 (dk_at dksX6_asks_6 7 rfl rfl)
theorem dX6_asks_148 : decode cX6_asks 148 = .ok (.aload_n 0, 1) := dk_42 (dk_at dksX6_asks_6 10 rfl rfl)
theorem dX6_asks_149 : decode cX6_asks 149 = .ok (.aload_n 0, 1) := dk_42 (dk_at dksX6_asks_6 11 rfl rfl)
theorem dX6_asks_150 : decode cX6_asks 150 = .ok (.getfield 7, 3) := dk_180 0 7 (dk_at dksX6_asks_6 12 rfl rfl)
theorem dX6_asks_153 : decode cX6_asks 153 = .ok (.iconst 2, 1) := dk_5 (dk_at dksX6_asks_6 15 rfl rfl)
theorem dX6_asks_154 : decode cX6_asks 154 = .ok (.iaload, 1) := dk_46 (dk_at dksX6_asks_6 16 rfl rfl)
theorem dX6_asks_155 : decode cX6_asks 155 = .ok (.putfield 90, 3) := dk_181 0 90 (dk_at dksX6_asks_6 17 rfl rfl)
theorem dX6_asks_158 : decode cX6_asks 158 = .ok (.aload_n 0, 1) := dk_42 (dk_at dksX6_asks_6 20 rfl rfl)
theorem dX6_asks_159 : decode cX6_asks 159 = .ok (.iconst 0, 1) := dk_3 (dk_at dksX6_asks_6 21 rfl rfl)
theorem dX6_asks_160 : decode cX6_asks 160 = .ok (.putfield 87, 3) := dk_181 0 87 (dk_at dksX6_asks_7 0 rfl rfl)
theorem dX6_asks_163 : decode cX6_asks 163 = .ok (.aload_n 0, 1) := dk_42 (dk_at dksX6_asks_7 3 rfl rfl)
theorem dX6_asks_164 : decode cX6_asks 164 = .ok (.iconst 0, 1) := dk_3 (dk_at dksX6_asks_7 4 rfl rfl)
theorem dX6_asks_165 : decode cX6_asks 165 = .ok (.putfield 179, 3) := dk_181 0 179 (dk_at dksX6_asks_7 5 rfl rfl)
theorem dX6_asks_168 : decode cX6_asks 168 = .ok (.aload_n 0, 1) := dk_42 (dk_at dksX6_asks_7 8 rfl rfl)
theorem dX6_asks_169 : decode cX6_asks 169 = .ok (.iconst 1, 1) := dk_4 (dk_at dksX6_asks_7 9 rfl rfl)
theorem dX6_asks_170 : decode cX6_asks 170 = .ok (.invokevirtual 198, 3) := dk_182 0 198 (dk_at dksX6_asks_7 10 rfl rfl)
theorem dX6_asks_173 : decode cX6_asks 173 = .ok (.istore 5, 2) := dk_54 5 (dk_at dksX6_asks_7 13 rfl rfl)
theorem dX6_asks_175 : decode cX6_asks 175 = .ok (.aload_n 0, 1) := dk_42 (dk_at dksX6_asks_7 15 rfl rfl)
theorem dX6_asks_176 : decode cX6_asks 176 = .ok (.iload 4, 2) := dk_21 4 (dk_at dksX6_asks_7 16 rfl rfl)
theorem dX6_asks_178 : decode cX6_asks 178 = .ok (.putfield 25, 3) := dk_181 0 25 (dk_at dksX6_asks_7 18 rfl rfl)
theorem dX6_asks_181 : decode cX6_asks 181 = .ok (.return_, 1) := dk_177 (dk_at dksX6_asks_7 21 rfl rfl)
abbrev cX6_joy : ByteArray := prog_19_method_72_code
def yX6_joy : MethodName := ⟨RX6, "joy", "(III)I"⟩
def dkwX6_joy_0 : List UInt8 := [42, 27, 28, 29, 182, 1, 78, 153, 0, 13, 42, 27, 28, 29, 182, 1, 81, 167, 0, 4, 3, 172]
abbrev dktX6_joy_0 : List UInt8 := dkwX6_joy_0 ++ []
theorem dksX6_joy_0 : cX6_joy.data.toList.drop 0 = dktX6_joy_0 := by decide +kernel
theorem dX6_joy_0 : decode cX6_joy 0 = .ok (.aload_n 0, 1) := dk_42 (dk_at dksX6_joy_0 0 rfl rfl)
theorem dX6_joy_1 : decode cX6_joy 1 = .ok (.iload_n 1, 1) := dk_27 (dk_at dksX6_joy_0 1 rfl rfl)
theorem dX6_joy_2 : decode cX6_joy 2 = .ok (.iload_n 2, 1) := dk_28 (dk_at dksX6_joy_0 2 rfl rfl)
theorem dX6_joy_3 : decode cX6_joy 3 = .ok (.iload_n 3, 1) := dk_29 (dk_at dksX6_joy_0 3 rfl rfl)
theorem dX6_joy_4 : decode cX6_joy 4 = .ok (.invokevirtual 334, 3) := dk_182 1 78 (dk_at dksX6_joy_0 4 rfl rfl)
theorem dX6_joy_7 : decode cX6_joy 7 = .ok (.ifCond .eq 13, 3) := dk_153 0 13 (dk_at dksX6_joy_0 7 rfl rfl)
theorem dX6_joy_10 : decode cX6_joy 10 = .ok (.aload_n 0, 1) := dk_42 (dk_at dksX6_joy_0 10 rfl rfl)
theorem dX6_joy_11 : decode cX6_joy 11 = .ok (.iload_n 1, 1) := dk_27 (dk_at dksX6_joy_0 11 rfl rfl)
theorem dX6_joy_12 : decode cX6_joy 12 = .ok (.iload_n 2, 1) := dk_28 (dk_at dksX6_joy_0 12 rfl rfl)
theorem dX6_joy_13 : decode cX6_joy 13 = .ok (.iload_n 3, 1) := dk_29 (dk_at dksX6_joy_0 13 rfl rfl)
theorem dX6_joy_14 : decode cX6_joy 14 = .ok (.invokevirtual 337, 3) := dk_182 1 81 (dk_at dksX6_joy_0 14 rfl rfl)
theorem dX6_joy_17 : decode cX6_joy 17 = .ok (.goto 4, 3) := dk_167 0 4 (dk_at dksX6_joy_0 17 rfl rfl)
theorem dX6_joy_20 : decode cX6_joy 20 = .ok (.iconst 0, 1) := dk_3 (dk_at dksX6_joy_0 20 rfl rfl)
theorem dX6_joy_21 : decode cX6_joy 21 = .ok (.ireturn, 1) := dk_172 (dk_at dksX6_joy_0 21 rfl rfl)
abbrev cX6_joyOf : ByteArray := prog_19_method_53_code
def yX6_joyOf : MethodName := ⟨RX6, "joyOf", "(III)I"⟩
def dkwX6_joyOf_0 : List UInt8 := [42, 27, 28, 29, 182, 1, 18, 3, 42, 27, 28, 182, 0, 61, 42, 180, 1, 10, 96, 184, 1, 21, 172]
abbrev dktX6_joyOf_0 : List UInt8 := dkwX6_joyOf_0 ++ []
theorem dksX6_joyOf_0 : cX6_joyOf.data.toList.drop 0 = dktX6_joyOf_0 := by decide +kernel
theorem dX6_joyOf_0 : decode cX6_joyOf 0 = .ok (.aload_n 0, 1) := dk_42 (dk_at dksX6_joyOf_0 0 rfl rfl)
theorem dX6_joyOf_1 : decode cX6_joyOf 1 = .ok (.iload_n 1, 1) := dk_27 (dk_at dksX6_joyOf_0 1 rfl rfl)
theorem dX6_joyOf_2 : decode cX6_joyOf 2 = .ok (.iload_n 2, 1) := dk_28 (dk_at dksX6_joyOf_0 2 rfl rfl)
theorem dX6_joyOf_3 : decode cX6_joyOf 3 = .ok (.iload_n 3, 1) := dk_29 (dk_at dksX6_joyOf_0 3 rfl rfl)
theorem dX6_joyOf_4 : decode cX6_joyOf 4 = .ok (.invokevirtual 274, 3) := dk_182 1 18 (dk_at dksX6_joyOf_0 4 rfl rfl)
theorem dX6_joyOf_7 : decode cX6_joyOf 7 = .ok (.iconst 0, 1) := dk_3 (dk_at dksX6_joyOf_0 7 rfl rfl)
theorem dX6_joyOf_8 : decode cX6_joyOf 8 = .ok (.aload_n 0, 1) := dk_42 (dk_at dksX6_joyOf_0 8 rfl rfl)
theorem dX6_joyOf_9 : decode cX6_joyOf 9 = .ok (.iload_n 1, 1) := dk_27 (dk_at dksX6_joyOf_0 9 rfl rfl)
theorem dX6_joyOf_10 : decode cX6_joyOf 10 = .ok (.iload_n 2, 1) := dk_28 (dk_at dksX6_joyOf_0 10 rfl rfl)
theorem dX6_joyOf_11 : decode cX6_joyOf 11 = .ok (.invokevirtual 61, 3) := dk_182 0 61 (dk_at dksX6_joyOf_0 11 rfl rfl)
theorem dX6_joyOf_14 : decode cX6_joyOf 14 = .ok (.aload_n 0, 1) := dk_42 (dk_at dksX6_joyOf_0 14 rfl rfl)
theorem dX6_joyOf_15 : decode cX6_joyOf 15 = .ok (.getfield 266, 3) := dk_180 1 10 (dk_at dksX6_joyOf_0 15 rfl rfl)
theorem dX6_joyOf_18 : decode cX6_joyOf 18 = .ok (.iadd, 1) := dk_96 (dk_at dksX6_joyOf_0 18 rfl rfl)
theorem dX6_joyOf_19 : decode cX6_joyOf 19 = .ok (.invokestatic 277, 3) := dk_184 1 21 (dk_at dksX6_joyOf_0 19 rfl rfl)
theorem dX6_joyOf_22 : decode cX6_joyOf 22 = .ok (.ireturn, 1) := dk_172 (dk_at dksX6_joyOf_0 22 rfl rfl)
abbrev cX6_greater : ByteArray := prog_19_method_5_code
def yX6_greater : MethodName := ⟨RX6, "greater", "(II)I"⟩
def dkwX6_greater_0 : List UInt8 := [26, 27, 164, 0, 7, 26, 167, 0, 4, 27, 172]
abbrev dktX6_greater_0 : List UInt8 := dkwX6_greater_0 ++ []
theorem dksX6_greater_0 : cX6_greater.data.toList.drop 0 = dktX6_greater_0 := by decide +kernel
theorem dX6_greater_0 : decode cX6_greater 0 = .ok (.iload_n 0, 1) := dk_26 (dk_at dksX6_greater_0 0 rfl rfl)
theorem dX6_greater_1 : decode cX6_greater 1 = .ok (.iload_n 1, 1) := dk_27 (dk_at dksX6_greater_0 1 rfl rfl)
theorem dX6_greater_2 : decode cX6_greater 2 = .ok (.if_icmp .le 7, 3) := dk_164 0 7 (dk_at dksX6_greater_0 2 rfl rfl)
theorem dX6_greater_5 : decode cX6_greater 5 = .ok (.iload_n 0, 1) := dk_26 (dk_at dksX6_greater_0 5 rfl rfl)
theorem dX6_greater_6 : decode cX6_greater 6 = .ok (.goto 4, 3) := dk_167 0 4 (dk_at dksX6_greater_0 6 rfl rfl)
theorem dX6_greater_9 : decode cX6_greater 9 = .ok (.iload_n 1, 1) := dk_27 (dk_at dksX6_greater_0 9 rfl rfl)
theorem dX6_greater_10 : decode cX6_greater 10 = .ok (.ireturn, 1) := dk_172 (dk_at dksX6_greater_0 10 rfl rfl)
abbrev cX6_book : ByteArray := prog_19_method_75_code
def yX6_book : MethodName := ⟨RX6, "book", "(III)I"⟩
def dkwX6_book_2 : List UInt8 := [158, 0, 7, 3, 167, 0, 18, 42, 17, 0, 195, 16, 8, 27, 104, 96, 29, 96, 28, 182, 1, 88, 172]
abbrev dktX6_book_2 : List UInt8 := dkwX6_book_2 ++ []
def dkwX6_book_1 : List UInt8 := [28, 182, 1, 69, 29, 184, 0, 74, 153, 0, 7, 5, 167, 0, 4, 3, 181, 0, 54, 42, 180, 0, 54]
abbrev dktX6_book_1 : List UInt8 := dkwX6_book_1 ++ dktX6_book_2
def dkwX6_book_0 : List UInt8 := [42, 27, 28, 29, 182, 1, 78, 154, 0, 5, 3, 172, 42, 42, 27, 28, 29, 182, 1, 24, 153, 0, 15, 42]
abbrev dktX6_book_0 : List UInt8 := dkwX6_book_0 ++ dktX6_book_1
theorem dksX6_book_0 : cX6_book.data.toList.drop 0 = dktX6_book_0 := by decide +kernel
theorem dksX6_book_1 : cX6_book.data.toList.drop 24 = dktX6_book_1 := dk_seg dksX6_book_0 24 rfl rfl
theorem dksX6_book_2 : cX6_book.data.toList.drop 47 = dktX6_book_2 := dk_seg dksX6_book_1 23 rfl rfl
theorem dX6_book_0 : decode cX6_book 0 = .ok (.aload_n 0, 1) := dk_42 (dk_at dksX6_book_0 0 rfl rfl)
theorem dX6_book_1 : decode cX6_book 1 = .ok (.iload_n 1, 1) := dk_27 (dk_at dksX6_book_0 1 rfl rfl)
theorem dX6_book_2 : decode cX6_book 2 = .ok (.iload_n 2, 1) := dk_28 (dk_at dksX6_book_0 2 rfl rfl)
theorem dX6_book_3 : decode cX6_book 3 = .ok (.iload_n 3, 1) := dk_29 (dk_at dksX6_book_0 3 rfl rfl)
theorem dX6_book_4 : decode cX6_book 4 = .ok (.invokevirtual 334, 3) := dk_182 1 78 (dk_at dksX6_book_0 4 rfl rfl)
theorem dX6_book_7 : decode cX6_book 7 = .ok (.ifCond .ne 5, 3) := dk_154 0 5 (dk_at dksX6_book_0 7 rfl rfl)
theorem dX6_book_10 : decode cX6_book 10 = .ok (.iconst 0, 1) := dk_3 (dk_at dksX6_book_0 10 rfl rfl)
theorem dX6_book_11 : decode cX6_book 11 = .ok (.ireturn, 1) := dk_172 (dk_at dksX6_book_0 11 rfl rfl)
theorem dX6_book_12 : decode cX6_book 12 = .ok (.aload_n 0, 1) := dk_42 (dk_at dksX6_book_0 12 rfl rfl)
theorem dX6_book_13 : decode cX6_book 13 = .ok (.aload_n 0, 1) := dk_42 (dk_at dksX6_book_0 13 rfl rfl)
theorem dX6_book_14 : decode cX6_book 14 = .ok (.iload_n 1, 1) := dk_27 (dk_at dksX6_book_0 14 rfl rfl)
theorem dX6_book_15 : decode cX6_book 15 = .ok (.iload_n 2, 1) := dk_28 (dk_at dksX6_book_0 15 rfl rfl)
theorem dX6_book_16 : decode cX6_book 16 = .ok (.iload_n 3, 1) := dk_29 (dk_at dksX6_book_0 16 rfl rfl)
theorem dX6_book_17 : decode cX6_book 17 = .ok (.invokevirtual 280, 3) := dk_182 1 24 (dk_at dksX6_book_0 17 rfl rfl)
theorem dX6_book_20 : decode cX6_book 20 = .ok (.ifCond .eq 15, 3) := dk_153 0 15 (dk_at dksX6_book_0 20 rfl rfl)
theorem dX6_book_23 : decode cX6_book 23 = .ok (.aload_n 0, 1) := dk_42 (dk_at dksX6_book_0 23 rfl rfl)
theorem dX6_book_24 : decode cX6_book 24 = .ok (.iload_n 2, 1) := dk_28 (dk_at dksX6_book_1 0 rfl rfl)
theorem dX6_book_25 : decode cX6_book 25 = .ok (.invokevirtual 325, 3) := dk_182 1 69 (dk_at dksX6_book_1 1 rfl rfl)
theorem dX6_book_28 : decode cX6_book 28 = .ok (.iload_n 3, 1) := dk_29 (dk_at dksX6_book_1 4 rfl rfl)
theorem dX6_book_29 : decode cX6_book 29 = .ok (.invokestatic 74, 3) := dk_184 0 74 (dk_at dksX6_book_1 5 rfl rfl)
theorem dX6_book_32 : decode cX6_book 32 = .ok (.ifCond .eq 7, 3) := dk_153 0 7 (dk_at dksX6_book_1 8 rfl rfl)
theorem dX6_book_35 : decode cX6_book 35 = .ok (.iconst 2, 1) := dk_5 (dk_at dksX6_book_1 11 rfl rfl)
theorem dX6_book_36 : decode cX6_book 36 = .ok (.goto 4, 3) := dk_167 0 4 (dk_at dksX6_book_1 12 rfl rfl)
theorem dX6_book_39 : decode cX6_book 39 = .ok (.iconst 0, 1) := dk_3 (dk_at dksX6_book_1 15 rfl rfl)
theorem dX6_book_40 : decode cX6_book 40 = .ok (.putfield 54, 3) := dk_181 0 54 (dk_at dksX6_book_1 16 rfl rfl)
theorem dX6_book_43 : decode cX6_book 43 = .ok (.aload_n 0, 1) := dk_42 (dk_at dksX6_book_1 19 rfl rfl)
theorem dX6_book_44 : decode cX6_book 44 = .ok (.getfield 54, 3) := dk_180 0 54 (dk_at dksX6_book_1 20 rfl rfl)
theorem dX6_book_47 : decode cX6_book 47 = .ok (.ifCond .le 7, 3) := dk_158 0 7 (dk_at dksX6_book_2 0 rfl rfl)
theorem dX6_book_50 : decode cX6_book 50 = .ok (.iconst 0, 1) := dk_3 (dk_at dksX6_book_2 3 rfl rfl)
theorem dX6_book_51 : decode cX6_book 51 = .ok (.goto 18, 3) := dk_167 0 18 (dk_at dksX6_book_2 4 rfl rfl)
theorem dX6_book_54 : decode cX6_book 54 = .ok (.aload_n 0, 1) := dk_42 (dk_at dksX6_book_2 7 rfl rfl)
theorem dX6_book_55 : decode cX6_book 55 = .ok (.sipush 195, 3) := dk_17 0 195 (dk_at dksX6_book_2 8 rfl rfl)
theorem dX6_book_58 : decode cX6_book 58 = .ok (.bipush 8, 2) := dk_16 8 (dk_at dksX6_book_2 11 rfl rfl)
theorem dX6_book_60 : decode cX6_book 60 = .ok (.iload_n 1, 1) := dk_27 (dk_at dksX6_book_2 13 rfl rfl)
theorem dX6_book_61 : decode cX6_book 61 = .ok (.imul, 1) := dk_104 (dk_at dksX6_book_2 14 rfl rfl)
theorem dX6_book_62 : decode cX6_book 62 = .ok (.iadd, 1) := dk_96 (dk_at dksX6_book_2 15 rfl rfl)
theorem dX6_book_63 : decode cX6_book 63 = .ok (.iload_n 3, 1) := dk_29 (dk_at dksX6_book_2 16 rfl rfl)
theorem dX6_book_64 : decode cX6_book 64 = .ok (.iadd, 1) := dk_96 (dk_at dksX6_book_2 17 rfl rfl)
theorem dX6_book_65 : decode cX6_book 65 = .ok (.iload_n 2, 1) := dk_28 (dk_at dksX6_book_2 18 rfl rfl)
theorem dX6_book_66 : decode cX6_book 66 = .ok (.invokevirtual 344, 3) := dk_182 1 88 (dk_at dksX6_book_2 19 rfl rfl)
theorem dX6_book_69 : decode cX6_book 69 = .ok (.ireturn, 1) := dk_172 (dk_at dksX6_book_2 22 rfl rfl)
abbrev cX6_sets : ByteArray := prog_19_method_74_code
def yX6_sets : MethodName := ⟨RX6, "sets", "(II)I"⟩
def dkwX6_sets_0 : List UInt8 := [42, 182, 1, 85, 42, 180, 0, 7, 27, 46, 62, 42, 180, 0, 7, 27, 28, 79, 29, 172]
abbrev dktX6_sets_0 : List UInt8 := dkwX6_sets_0 ++ []
theorem dksX6_sets_0 : cX6_sets.data.toList.drop 0 = dktX6_sets_0 := by decide +kernel
theorem dX6_sets_0 : decode cX6_sets 0 = .ok (.aload_n 0, 1) := dk_42 (dk_at dksX6_sets_0 0 rfl rfl)
theorem dX6_sets_1 : decode cX6_sets 1 = .ok (.invokevirtual 341, 3) := dk_182 1 85 (dk_at dksX6_sets_0 1 rfl rfl)
theorem dX6_sets_4 : decode cX6_sets 4 = .ok (.aload_n 0, 1) := dk_42 (dk_at dksX6_sets_0 4 rfl rfl)
theorem dX6_sets_5 : decode cX6_sets 5 = .ok (.getfield 7, 3) := dk_180 0 7 (dk_at dksX6_sets_0 5 rfl rfl)
theorem dX6_sets_8 : decode cX6_sets 8 = .ok (.iload_n 1, 1) := dk_27 (dk_at dksX6_sets_0 8 rfl rfl)
theorem dX6_sets_9 : decode cX6_sets 9 = .ok (.iaload, 1) := dk_46 (dk_at dksX6_sets_0 9 rfl rfl)
theorem dX6_sets_10 : decode cX6_sets 10 = .ok (.istore_n 3, 1) := dk_62 (dk_at dksX6_sets_0 10 rfl rfl)
theorem dX6_sets_11 : decode cX6_sets 11 = .ok (.aload_n 0, 1) := dk_42 (dk_at dksX6_sets_0 11 rfl rfl)
theorem dX6_sets_12 : decode cX6_sets 12 = .ok (.getfield 7, 3) := dk_180 0 7 (dk_at dksX6_sets_0 12 rfl rfl)
theorem dX6_sets_15 : decode cX6_sets 15 = .ok (.iload_n 1, 1) := dk_27 (dk_at dksX6_sets_0 15 rfl rfl)
theorem dX6_sets_16 : decode cX6_sets 16 = .ok (.iload_n 2, 1) := dk_28 (dk_at dksX6_sets_0 16 rfl rfl)
theorem dX6_sets_17 : decode cX6_sets 17 = .ok (.iastore, 1) := dk_79 (dk_at dksX6_sets_0 17 rfl rfl)
theorem dX6_sets_18 : decode cX6_sets 18 = .ok (.iload_n 3, 1) := dk_29 (dk_at dksX6_sets_0 18 rfl rfl)
theorem dX6_sets_19 : decode cX6_sets 19 = .ok (.ireturn, 1) := dk_172 (dk_at dksX6_sets_0 19 rfl rfl)
abbrev cX6_remembers : ByteArray := prog_19_method_73_code
def yX6_remembers : MethodName := ⟨RX6, "remembers", "()V"⟩
def dkwX6_remembers_4 : List UInt8 := [181, 0, 205, 177]
abbrev dktX6_remembers_4 : List UInt8 := dkwX6_remembers_4 ++ []
def dkwX6_remembers_3 : List UInt8 := [27, 96, 42, 180, 0, 7, 27, 46, 79, 132, 1, 1, 167, 255, 225, 42, 89, 180, 0, 205, 4, 96]
abbrev dktX6_remembers_3 : List UInt8 := dkwX6_remembers_3 ++ dktX6_remembers_4
def dkwX6_remembers_2 : List UInt8 := [181, 0, 205, 3, 60, 27, 17, 2, 107, 162, 0, 30, 42, 180, 0, 19, 17, 2, 107, 42, 180, 0, 205, 104]
abbrev dktX6_remembers_2 : List UInt8 := dkwX6_remembers_2 ++ dktX6_remembers_3
def dkwX6_remembers_1 : List UInt8 := [180, 0, 19, 27, 17, 2, 107, 96, 46, 79, 132, 1, 1, 167, 255, 230, 42, 89, 180, 0, 205, 4, 100]
abbrev dktX6_remembers_1 : List UInt8 := dkwX6_remembers_1 ++ dktX6_remembers_2
def dkwX6_remembers_0 : List UInt8 := [42, 180, 0, 205, 16, 12, 160, 0, 44, 3, 60, 27, 17, 26, 153, 162, 0, 25, 42, 180, 0, 19, 27, 42]
abbrev dktX6_remembers_0 : List UInt8 := dkwX6_remembers_0 ++ dktX6_remembers_1
theorem dksX6_remembers_0 : cX6_remembers.data.toList.drop 0 = dktX6_remembers_0 := by decide +kernel
theorem dksX6_remembers_1 : cX6_remembers.data.toList.drop 24 = dktX6_remembers_1 := dk_seg dksX6_remembers_0 24 rfl rfl
theorem dksX6_remembers_2 : cX6_remembers.data.toList.drop 47 = dktX6_remembers_2 := dk_seg dksX6_remembers_1 23 rfl rfl
theorem dksX6_remembers_3 : cX6_remembers.data.toList.drop 71 = dktX6_remembers_3 := dk_seg dksX6_remembers_2 24 rfl rfl
theorem dksX6_remembers_4 : cX6_remembers.data.toList.drop 93 = dktX6_remembers_4 := dk_seg dksX6_remembers_3 22 rfl rfl
theorem dX6_remembers_0 : decode cX6_remembers 0 = .ok (.aload_n 0, 1) := dk_42 (dk_at dksX6_remembers_0 0 rfl rfl)
theorem dX6_remembers_1 : decode cX6_remembers 1 = .ok (.getfield 205, 3) := dk_180 0 205 (dk_at dksX6_remembers_0 1 rfl rfl)
theorem dX6_remembers_4 : decode cX6_remembers 4 = .ok (.bipush 12, 2) := dk_16 12 (dk_at dksX6_remembers_0 4 rfl rfl)
theorem dX6_remembers_6 : decode cX6_remembers 6 = .ok (.if_icmp .ne 44, 3) := dk_160 0 44 (dk_at dksX6_remembers_0 6 rfl rfl)
theorem dX6_remembers_9 : decode cX6_remembers 9 = .ok (.iconst 0, 1) := dk_3 (dk_at dksX6_remembers_0 9 rfl rfl)
theorem dX6_remembers_10 : decode cX6_remembers 10 = .ok (.istore_n 1, 1) := dk_60 (dk_at dksX6_remembers_0 10 rfl rfl)
theorem dX6_remembers_11 : decode cX6_remembers 11 = .ok (.iload_n 1, 1) := dk_27 (dk_at dksX6_remembers_0 11 rfl rfl)
theorem dX6_remembers_12 : decode cX6_remembers 12 = .ok (.sipush 6809, 3) := dk_17 26 153 (dk_at dksX6_remembers_0 12 rfl rfl)
theorem dX6_remembers_15 : decode cX6_remembers 15 = .ok (.if_icmp .ge 25, 3) := dk_162 0 25 (dk_at dksX6_remembers_0 15 rfl rfl)
theorem dX6_remembers_18 : decode cX6_remembers 18 = .ok (.aload_n 0, 1) := dk_42 (dk_at dksX6_remembers_0 18 rfl rfl)
theorem dX6_remembers_19 : decode cX6_remembers 19 = .ok (.getfield 19, 3) := dk_180 0 19 (dk_at dksX6_remembers_0 19 rfl rfl)
theorem dX6_remembers_22 : decode cX6_remembers 22 = .ok (.iload_n 1, 1) := dk_27 (dk_at dksX6_remembers_0 22 rfl rfl)
theorem dX6_remembers_23 : decode cX6_remembers 23 = .ok (.aload_n 0, 1) := dk_42 (dk_at dksX6_remembers_0 23 rfl rfl)
theorem dX6_remembers_24 : decode cX6_remembers 24 = .ok (.getfield 19, 3) := dk_180 0 19 (dk_at dksX6_remembers_1 0 rfl rfl)
theorem dX6_remembers_27 : decode cX6_remembers 27 = .ok (.iload_n 1, 1) := dk_27 (dk_at dksX6_remembers_1 3 rfl rfl)
theorem dX6_remembers_28 : decode cX6_remembers 28 = .ok (.sipush 619, 3) := dk_17 2 107 (dk_at dksX6_remembers_1 4 rfl rfl)
theorem dX6_remembers_31 : decode cX6_remembers 31 = .ok (.iadd, 1) := dk_96 (dk_at dksX6_remembers_1 7 rfl rfl)
theorem dX6_remembers_32 : decode cX6_remembers 32 = .ok (.iaload, 1) := dk_46 (dk_at dksX6_remembers_1 8 rfl rfl)
theorem dX6_remembers_33 : decode cX6_remembers 33 = .ok (.iastore, 1) := dk_79 (dk_at dksX6_remembers_1 9 rfl rfl)
theorem dX6_remembers_34 : decode cX6_remembers 34 = .ok (.iinc 1 1, 3) := dk_132 1 1 (dk_at dksX6_remembers_1 10 rfl rfl)
theorem dX6_remembers_37 : decode cX6_remembers 37 = .ok (.goto (-26), 3) := dk_167 255 230 (dk_at dksX6_remembers_1 13 rfl rfl)
theorem dX6_remembers_40 : decode cX6_remembers 40 = .ok (.aload_n 0, 1) := dk_42 (dk_at dksX6_remembers_1 16 rfl rfl)
theorem dX6_remembers_41 : decode cX6_remembers 41 = .ok (.dup, 1) := dk_89 (dk_at dksX6_remembers_1 17 rfl rfl)
theorem dX6_remembers_42 : decode cX6_remembers 42 = .ok (.getfield 205, 3) := dk_180 0 205 (dk_at dksX6_remembers_1 18 rfl rfl)
theorem dX6_remembers_45 : decode cX6_remembers 45 = .ok (.iconst 1, 1) := dk_4 (dk_at dksX6_remembers_1 21 rfl rfl)
theorem dX6_remembers_46 : decode cX6_remembers 46 = .ok (.isub, 1) := dk_100 (dk_at dksX6_remembers_1 22 rfl rfl)
theorem dX6_remembers_47 : decode cX6_remembers 47 = .ok (.putfield 205, 3) := dk_181 0 205 (dk_at dksX6_remembers_2 0 rfl rfl)
theorem dX6_remembers_50 : decode cX6_remembers 50 = .ok (.iconst 0, 1) := dk_3 (dk_at dksX6_remembers_2 3 rfl rfl)
theorem dX6_remembers_51 : decode cX6_remembers 51 = .ok (.istore_n 1, 1) := dk_60 (dk_at dksX6_remembers_2 4 rfl rfl)
theorem dX6_remembers_52 : decode cX6_remembers 52 = .ok (.iload_n 1, 1) := dk_27 (dk_at dksX6_remembers_2 5 rfl rfl)
theorem dX6_remembers_53 : decode cX6_remembers 53 = .ok (.sipush 619, 3) := dk_17 2 107 (dk_at dksX6_remembers_2 6 rfl rfl)
theorem dX6_remembers_56 : decode cX6_remembers 56 = .ok (.if_icmp .ge 30, 3) := dk_162 0 30 (dk_at dksX6_remembers_2 9 rfl rfl)
theorem dX6_remembers_59 : decode cX6_remembers 59 = .ok (.aload_n 0, 1) := dk_42 (dk_at dksX6_remembers_2 12 rfl rfl)
theorem dX6_remembers_60 : decode cX6_remembers 60 = .ok (.getfield 19, 3) := dk_180 0 19 (dk_at dksX6_remembers_2 13 rfl rfl)
theorem dX6_remembers_63 : decode cX6_remembers 63 = .ok (.sipush 619, 3) := dk_17 2 107 (dk_at dksX6_remembers_2 16 rfl rfl)
theorem dX6_remembers_66 : decode cX6_remembers 66 = .ok (.aload_n 0, 1) := dk_42 (dk_at dksX6_remembers_2 19 rfl rfl)
theorem dX6_remembers_67 : decode cX6_remembers 67 = .ok (.getfield 205, 3) := dk_180 0 205 (dk_at dksX6_remembers_2 20 rfl rfl)
theorem dX6_remembers_70 : decode cX6_remembers 70 = .ok (.imul, 1) := dk_104 (dk_at dksX6_remembers_2 23 rfl rfl)
theorem dX6_remembers_71 : decode cX6_remembers 71 = .ok (.iload_n 1, 1) := dk_27 (dk_at dksX6_remembers_3 0 rfl rfl)
theorem dX6_remembers_72 : decode cX6_remembers 72 = .ok (.iadd, 1) := dk_96 (dk_at dksX6_remembers_3 1 rfl rfl)
theorem dX6_remembers_73 : decode cX6_remembers 73 = .ok (.aload_n 0, 1) := dk_42 (dk_at dksX6_remembers_3 2 rfl rfl)
theorem dX6_remembers_74 : decode cX6_remembers 74 = .ok (.getfield 7, 3) := dk_180 0 7 (dk_at dksX6_remembers_3 3 rfl rfl)
theorem dX6_remembers_77 : decode cX6_remembers 77 = .ok (.iload_n 1, 1) := dk_27 (dk_at dksX6_remembers_3 6 rfl rfl)
theorem dX6_remembers_78 : decode cX6_remembers 78 = .ok (.iaload, 1) := dk_46 (dk_at dksX6_remembers_3 7 rfl rfl)
theorem dX6_remembers_79 : decode cX6_remembers 79 = .ok (.iastore, 1) := dk_79 (dk_at dksX6_remembers_3 8 rfl rfl)
theorem dX6_remembers_80 : decode cX6_remembers 80 = .ok (.iinc 1 1, 3) := dk_132 1 1 (dk_at dksX6_remembers_3 9 rfl rfl)
theorem dX6_remembers_83 : decode cX6_remembers 83 = .ok (.goto (-31), 3) := dk_167 255 225 (dk_at dksX6_remembers_3 12 rfl rfl)
theorem dX6_remembers_86 : decode cX6_remembers 86 = .ok (.aload_n 0, 1) := dk_42 (dk_at dksX6_remembers_3 15 rfl rfl)
theorem dX6_remembers_87 : decode cX6_remembers 87 = .ok (.dup, 1) := dk_89 (dk_at dksX6_remembers_3 16 rfl rfl)
theorem dX6_remembers_88 : decode cX6_remembers 88 = .ok (.getfield 205, 3) := dk_180 0 205 (dk_at dksX6_remembers_3 17 rfl rfl)
theorem dX6_remembers_91 : decode cX6_remembers 91 = .ok (.iconst 1, 1) := dk_4 (dk_at dksX6_remembers_3 20 rfl rfl)
theorem dX6_remembers_92 : decode cX6_remembers 92 = .ok (.iadd, 1) := dk_96 (dk_at dksX6_remembers_3 21 rfl rfl)
theorem dX6_remembers_93 : decode cX6_remembers 93 = .ok (.putfield 205, 3) := dk_181 0 205 (dk_at dksX6_remembers_4 0 rfl rfl)
theorem dX6_remembers_96 : decode cX6_remembers 96 = .ok (.return_, 1) := dk_177 (dk_at dksX6_remembers_4 3 rfl rfl)
abbrev cX6_strike : ByteArray := prog_19_method_76_code
def yX6_strike : MethodName := ⟨RX6, "strike", "(II)I"⟩
def dkwX6_strike_3 : List UInt8 := [28, 96, 2, 182, 1, 88, 172]
abbrev dktX6_strike_3 : List UInt8 := dkwX6_strike_3 ++ []
def dkwX6_strike_2 : List UInt8 := [3, 181, 0, 54, 42, 180, 0, 54, 158, 0, 7, 3, 167, 0, 18, 42, 17, 0, 195, 16, 8, 27, 104, 96]
abbrev dktX6_strike_2 : List UInt8 := dkwX6_strike_2 ++ dktX6_strike_3
def dkwX6_strike_1 : List UInt8 := [42, 180, 0, 54, 158, 0, 5, 3, 172, 42, 42, 27, 28, 182, 1, 15, 2, 160, 0, 7, 5, 167, 0, 4]
abbrev dktX6_strike_1 : List UInt8 := dkwX6_strike_1 ++ dktX6_strike_2
def dkwX6_strike_0 : List UInt8 := [42, 42, 27, 182, 1, 54, 153, 0, 10, 28, 184, 1, 75, 154, 0, 7, 4, 167, 0, 4, 3, 181, 0, 54]
abbrev dktX6_strike_0 : List UInt8 := dkwX6_strike_0 ++ dktX6_strike_1
theorem dksX6_strike_0 : cX6_strike.data.toList.drop 0 = dktX6_strike_0 := by decide +kernel
theorem dksX6_strike_1 : cX6_strike.data.toList.drop 24 = dktX6_strike_1 := dk_seg dksX6_strike_0 24 rfl rfl
theorem dksX6_strike_2 : cX6_strike.data.toList.drop 48 = dktX6_strike_2 := dk_seg dksX6_strike_1 24 rfl rfl
theorem dksX6_strike_3 : cX6_strike.data.toList.drop 72 = dktX6_strike_3 := dk_seg dksX6_strike_2 24 rfl rfl
theorem dX6_strike_0 : decode cX6_strike 0 = .ok (.aload_n 0, 1) := dk_42 (dk_at dksX6_strike_0 0 rfl rfl)
theorem dX6_strike_1 : decode cX6_strike 1 = .ok (.aload_n 0, 1) := dk_42 (dk_at dksX6_strike_0 1 rfl rfl)
theorem dX6_strike_2 : decode cX6_strike 2 = .ok (.iload_n 1, 1) := dk_27 (dk_at dksX6_strike_0 2 rfl rfl)
theorem dX6_strike_3 : decode cX6_strike 3 = .ok (.invokevirtual 310, 3) := dk_182 1 54 (dk_at dksX6_strike_0 3 rfl rfl)
theorem dX6_strike_6 : decode cX6_strike 6 = .ok (.ifCond .eq 10, 3) := dk_153 0 10 (dk_at dksX6_strike_0 6 rfl rfl)
theorem dX6_strike_9 : decode cX6_strike 9 = .ok (.iload_n 2, 1) := dk_28 (dk_at dksX6_strike_0 9 rfl rfl)
theorem dX6_strike_10 : decode cX6_strike 10 = .ok (.invokestatic 331, 3) := dk_184 1 75 (dk_at dksX6_strike_0 10 rfl rfl)
theorem dX6_strike_13 : decode cX6_strike 13 = .ok (.ifCond .ne 7, 3) := dk_154 0 7 (dk_at dksX6_strike_0 13 rfl rfl)
theorem dX6_strike_16 : decode cX6_strike 16 = .ok (.iconst 1, 1) := dk_4 (dk_at dksX6_strike_0 16 rfl rfl)
theorem dX6_strike_17 : decode cX6_strike 17 = .ok (.goto 4, 3) := dk_167 0 4 (dk_at dksX6_strike_0 17 rfl rfl)
theorem dX6_strike_20 : decode cX6_strike 20 = .ok (.iconst 0, 1) := dk_3 (dk_at dksX6_strike_0 20 rfl rfl)
theorem dX6_strike_21 : decode cX6_strike 21 = .ok (.putfield 54, 3) := dk_181 0 54 (dk_at dksX6_strike_0 21 rfl rfl)
theorem dX6_strike_24 : decode cX6_strike 24 = .ok (.aload_n 0, 1) := dk_42 (dk_at dksX6_strike_1 0 rfl rfl)
theorem dX6_strike_25 : decode cX6_strike 25 = .ok (.getfield 54, 3) := dk_180 0 54 (dk_at dksX6_strike_1 1 rfl rfl)
theorem dX6_strike_28 : decode cX6_strike 28 = .ok (.ifCond .le 5, 3) := dk_158 0 5 (dk_at dksX6_strike_1 4 rfl rfl)
theorem dX6_strike_31 : decode cX6_strike 31 = .ok (.iconst 0, 1) := dk_3 (dk_at dksX6_strike_1 7 rfl rfl)
theorem dX6_strike_32 : decode cX6_strike 32 = .ok (.ireturn, 1) := dk_172 (dk_at dksX6_strike_1 8 rfl rfl)
theorem dX6_strike_33 : decode cX6_strike 33 = .ok (.aload_n 0, 1) := dk_42 (dk_at dksX6_strike_1 9 rfl rfl)
theorem dX6_strike_34 : decode cX6_strike 34 = .ok (.aload_n 0, 1) := dk_42 (dk_at dksX6_strike_1 10 rfl rfl)
theorem dX6_strike_35 : decode cX6_strike 35 = .ok (.iload_n 1, 1) := dk_27 (dk_at dksX6_strike_1 11 rfl rfl)
theorem dX6_strike_36 : decode cX6_strike 36 = .ok (.iload_n 2, 1) := dk_28 (dk_at dksX6_strike_1 12 rfl rfl)
theorem dX6_strike_37 : decode cX6_strike 37 = .ok (.invokevirtual 271, 3) := dk_182 1 15 (dk_at dksX6_strike_1 13 rfl rfl)
theorem dX6_strike_40 : decode cX6_strike 40 = .ok (.iconst (-1), 1) := dk_2 (dk_at dksX6_strike_1 16 rfl rfl)
theorem dX6_strike_41 : decode cX6_strike 41 = .ok (.if_icmp .ne 7, 3) := dk_160 0 7 (dk_at dksX6_strike_1 17 rfl rfl)
theorem dX6_strike_44 : decode cX6_strike 44 = .ok (.iconst 2, 1) := dk_5 (dk_at dksX6_strike_1 20 rfl rfl)
theorem dX6_strike_45 : decode cX6_strike 45 = .ok (.goto 4, 3) := dk_167 0 4 (dk_at dksX6_strike_1 21 rfl rfl)
theorem dX6_strike_48 : decode cX6_strike 48 = .ok (.iconst 0, 1) := dk_3 (dk_at dksX6_strike_2 0 rfl rfl)
theorem dX6_strike_49 : decode cX6_strike 49 = .ok (.putfield 54, 3) := dk_181 0 54 (dk_at dksX6_strike_2 1 rfl rfl)
theorem dX6_strike_52 : decode cX6_strike 52 = .ok (.aload_n 0, 1) := dk_42 (dk_at dksX6_strike_2 4 rfl rfl)
theorem dX6_strike_53 : decode cX6_strike 53 = .ok (.getfield 54, 3) := dk_180 0 54 (dk_at dksX6_strike_2 5 rfl rfl)
theorem dX6_strike_56 : decode cX6_strike 56 = .ok (.ifCond .le 7, 3) := dk_158 0 7 (dk_at dksX6_strike_2 8 rfl rfl)
theorem dX6_strike_59 : decode cX6_strike 59 = .ok (.iconst 0, 1) := dk_3 (dk_at dksX6_strike_2 11 rfl rfl)
theorem dX6_strike_60 : decode cX6_strike 60 = .ok (.goto 18, 3) := dk_167 0 18 (dk_at dksX6_strike_2 12 rfl rfl)
theorem dX6_strike_63 : decode cX6_strike 63 = .ok (.aload_n 0, 1) := dk_42 (dk_at dksX6_strike_2 15 rfl rfl)
theorem dX6_strike_64 : decode cX6_strike 64 = .ok (.sipush 195, 3) := dk_17 0 195 (dk_at dksX6_strike_2 16 rfl rfl)
theorem dX6_strike_67 : decode cX6_strike 67 = .ok (.bipush 8, 2) := dk_16 8 (dk_at dksX6_strike_2 19 rfl rfl)
theorem dX6_strike_69 : decode cX6_strike 69 = .ok (.iload_n 1, 1) := dk_27 (dk_at dksX6_strike_2 21 rfl rfl)
theorem dX6_strike_70 : decode cX6_strike 70 = .ok (.imul, 1) := dk_104 (dk_at dksX6_strike_2 22 rfl rfl)
theorem dX6_strike_71 : decode cX6_strike 71 = .ok (.iadd, 1) := dk_96 (dk_at dksX6_strike_2 23 rfl rfl)
theorem dX6_strike_72 : decode cX6_strike 72 = .ok (.iload_n 2, 1) := dk_28 (dk_at dksX6_strike_3 0 rfl rfl)
theorem dX6_strike_73 : decode cX6_strike 73 = .ok (.iadd, 1) := dk_96 (dk_at dksX6_strike_3 1 rfl rfl)
theorem dX6_strike_74 : decode cX6_strike 74 = .ok (.iconst (-1), 1) := dk_2 (dk_at dksX6_strike_3 2 rfl rfl)
theorem dX6_strike_75 : decode cX6_strike 75 = .ok (.invokevirtual 344, 3) := dk_182 1 88 (dk_at dksX6_strike_3 3 rfl rfl)
theorem dX6_strike_78 : decode cX6_strike 78 = .ok (.ireturn, 1) := dk_172 (dk_at dksX6_strike_3 6 rfl rfl)
abbrev cX6_change : ByteArray := prog_19_method_77_code
def yX6_change : MethodName := ⟨RX6, "change", "(III)I"⟩
def dkwX6_change_4 : List UInt8 := [172]
abbrev dktX6_change_4 : List UInt8 := dkwX6_change_4 ++ []
def dkwX6_change_3 : List UInt8 := [182, 1, 88, 54, 5, 42, 180, 0, 7, 17, 0, 195, 16, 8, 28, 104, 96, 29, 96, 21, 5, 79, 21, 4]
abbrev dktX6_change_3 : List UInt8 := dkwX6_change_3 ++ dktX6_change_4
def dkwX6_change_2 : List UInt8 := [3, 172, 42, 28, 29, 182, 1, 15, 54, 4, 42, 17, 0, 195, 16, 8, 27, 104, 96, 29, 96, 21, 4]
abbrev dktX6_change_2 : List UInt8 := dkwX6_change_2 ++ dktX6_change_3
def dkwX6_change_1 : List UInt8 := [4, 167, 0, 13, 27, 28, 160, 0, 7, 5, 167, 0, 4, 3, 181, 0, 54, 42, 180, 0, 54, 158, 0, 5]
abbrev dktX6_change_1 : List UInt8 := dkwX6_change_1 ++ dktX6_change_2
def dkwX6_change_0 : List UInt8 := [42, 42, 27, 182, 1, 54, 153, 0, 18, 42, 28, 182, 1, 54, 153, 0, 10, 29, 184, 1, 75, 154, 0, 7]
abbrev dktX6_change_0 : List UInt8 := dkwX6_change_0 ++ dktX6_change_1
theorem dksX6_change_0 : cX6_change.data.toList.drop 0 = dktX6_change_0 := by decide +kernel
theorem dksX6_change_1 : cX6_change.data.toList.drop 24 = dktX6_change_1 := dk_seg dksX6_change_0 24 rfl rfl
theorem dksX6_change_2 : cX6_change.data.toList.drop 48 = dktX6_change_2 := dk_seg dksX6_change_1 24 rfl rfl
theorem dksX6_change_3 : cX6_change.data.toList.drop 71 = dktX6_change_3 := dk_seg dksX6_change_2 23 rfl rfl
theorem dksX6_change_4 : cX6_change.data.toList.drop 95 = dktX6_change_4 := dk_seg dksX6_change_3 24 rfl rfl
theorem dX6_change_0 : decode cX6_change 0 = .ok (.aload_n 0, 1) := dk_42 (dk_at dksX6_change_0 0 rfl rfl)
theorem dX6_change_1 : decode cX6_change 1 = .ok (.aload_n 0, 1) := dk_42 (dk_at dksX6_change_0 1 rfl rfl)
theorem dX6_change_2 : decode cX6_change 2 = .ok (.iload_n 1, 1) := dk_27 (dk_at dksX6_change_0 2 rfl rfl)
theorem dX6_change_3 : decode cX6_change 3 = .ok (.invokevirtual 310, 3) := dk_182 1 54 (dk_at dksX6_change_0 3 rfl rfl)
theorem dX6_change_6 : decode cX6_change 6 = .ok (.ifCond .eq 18, 3) := dk_153 0 18 (dk_at dksX6_change_0 6 rfl rfl)
theorem dX6_change_9 : decode cX6_change 9 = .ok (.aload_n 0, 1) := dk_42 (dk_at dksX6_change_0 9 rfl rfl)
theorem dX6_change_10 : decode cX6_change 10 = .ok (.iload_n 2, 1) := dk_28 (dk_at dksX6_change_0 10 rfl rfl)
theorem dX6_change_11 : decode cX6_change 11 = .ok (.invokevirtual 310, 3) := dk_182 1 54 (dk_at dksX6_change_0 11 rfl rfl)
theorem dX6_change_14 : decode cX6_change 14 = .ok (.ifCond .eq 10, 3) := dk_153 0 10 (dk_at dksX6_change_0 14 rfl rfl)
theorem dX6_change_17 : decode cX6_change 17 = .ok (.iload_n 3, 1) := dk_29 (dk_at dksX6_change_0 17 rfl rfl)
theorem dX6_change_18 : decode cX6_change 18 = .ok (.invokestatic 331, 3) := dk_184 1 75 (dk_at dksX6_change_0 18 rfl rfl)
theorem dX6_change_21 : decode cX6_change 21 = .ok (.ifCond .ne 7, 3) := dk_154 0 7 (dk_at dksX6_change_0 21 rfl rfl)
theorem dX6_change_24 : decode cX6_change 24 = .ok (.iconst 1, 1) := dk_4 (dk_at dksX6_change_1 0 rfl rfl)
theorem dX6_change_25 : decode cX6_change 25 = .ok (.goto 13, 3) := dk_167 0 13 (dk_at dksX6_change_1 1 rfl rfl)
theorem dX6_change_28 : decode cX6_change 28 = .ok (.iload_n 1, 1) := dk_27 (dk_at dksX6_change_1 4 rfl rfl)
theorem dX6_change_29 : decode cX6_change 29 = .ok (.iload_n 2, 1) := dk_28 (dk_at dksX6_change_1 5 rfl rfl)
theorem dX6_change_30 : decode cX6_change 30 = .ok (.if_icmp .ne 7, 3) := dk_160 0 7 (dk_at dksX6_change_1 6 rfl rfl)
theorem dX6_change_33 : decode cX6_change 33 = .ok (.iconst 2, 1) := dk_5 (dk_at dksX6_change_1 9 rfl rfl)
theorem dX6_change_34 : decode cX6_change 34 = .ok (.goto 4, 3) := dk_167 0 4 (dk_at dksX6_change_1 10 rfl rfl)
theorem dX6_change_37 : decode cX6_change 37 = .ok (.iconst 0, 1) := dk_3 (dk_at dksX6_change_1 13 rfl rfl)
theorem dX6_change_38 : decode cX6_change 38 = .ok (.putfield 54, 3) := dk_181 0 54 (dk_at dksX6_change_1 14 rfl rfl)
theorem dX6_change_41 : decode cX6_change 41 = .ok (.aload_n 0, 1) := dk_42 (dk_at dksX6_change_1 17 rfl rfl)
theorem dX6_change_42 : decode cX6_change 42 = .ok (.getfield 54, 3) := dk_180 0 54 (dk_at dksX6_change_1 18 rfl rfl)
theorem dX6_change_45 : decode cX6_change 45 = .ok (.ifCond .le 5, 3) := dk_158 0 5 (dk_at dksX6_change_1 21 rfl rfl)
theorem dX6_change_48 : decode cX6_change 48 = .ok (.iconst 0, 1) := dk_3 (dk_at dksX6_change_2 0 rfl rfl)
theorem dX6_change_49 : decode cX6_change 49 = .ok (.ireturn, 1) := dk_172 (dk_at dksX6_change_2 1 rfl rfl)
theorem dX6_change_50 : decode cX6_change 50 = .ok (.aload_n 0, 1) := dk_42 (dk_at dksX6_change_2 2 rfl rfl)
theorem dX6_change_51 : decode cX6_change 51 = .ok (.iload_n 2, 1) := dk_28 (dk_at dksX6_change_2 3 rfl rfl)
theorem dX6_change_52 : decode cX6_change 52 = .ok (.iload_n 3, 1) := dk_29 (dk_at dksX6_change_2 4 rfl rfl)
theorem dX6_change_53 : decode cX6_change 53 = .ok (.invokevirtual 271, 3) := dk_182 1 15 (dk_at dksX6_change_2 5 rfl rfl)
theorem dX6_change_56 : decode cX6_change 56 = .ok (.istore 4, 2) := dk_54 4 (dk_at dksX6_change_2 8 rfl rfl)
theorem dX6_change_58 : decode cX6_change 58 = .ok (.aload_n 0, 1) := dk_42 (dk_at dksX6_change_2 10 rfl rfl)
theorem dX6_change_59 : decode cX6_change 59 = .ok (.sipush 195, 3) := dk_17 0 195 (dk_at dksX6_change_2 11 rfl rfl)
theorem dX6_change_62 : decode cX6_change 62 = .ok (.bipush 8, 2) := dk_16 8 (dk_at dksX6_change_2 14 rfl rfl)
theorem dX6_change_64 : decode cX6_change 64 = .ok (.iload_n 1, 1) := dk_27 (dk_at dksX6_change_2 16 rfl rfl)
theorem dX6_change_65 : decode cX6_change 65 = .ok (.imul, 1) := dk_104 (dk_at dksX6_change_2 17 rfl rfl)
theorem dX6_change_66 : decode cX6_change 66 = .ok (.iadd, 1) := dk_96 (dk_at dksX6_change_2 18 rfl rfl)
theorem dX6_change_67 : decode cX6_change 67 = .ok (.iload_n 3, 1) := dk_29 (dk_at dksX6_change_2 19 rfl rfl)
theorem dX6_change_68 : decode cX6_change 68 = .ok (.iadd, 1) := dk_96 (dk_at dksX6_change_2 20 rfl rfl)
theorem dX6_change_69 : decode cX6_change 69 = .ok (.iload 4, 2) := dk_21 4 (dk_at dksX6_change_2 21 rfl rfl)
theorem dX6_change_71 : decode cX6_change 71 = .ok (.invokevirtual 344, 3) := dk_182 1 88 (dk_at dksX6_change_3 0 rfl rfl)
theorem dX6_change_74 : decode cX6_change 74 = .ok (.istore 5, 2) := dk_54 5 (dk_at dksX6_change_3 3 rfl rfl)
theorem dX6_change_76 : decode cX6_change 76 = .ok (.aload_n 0, 1) := dk_42 (dk_at dksX6_change_3 5 rfl rfl)
theorem dX6_change_77 : decode cX6_change 77 = .ok (.getfield 7, 3) := dk_180 0 7 (dk_at dksX6_change_3 6 rfl rfl)
theorem dX6_change_80 : decode cX6_change 80 = .ok (.sipush 195, 3) := dk_17 0 195 (dk_at dksX6_change_3 9 rfl rfl)
theorem dX6_change_83 : decode cX6_change 83 = .ok (.bipush 8, 2) := dk_16 8 (dk_at dksX6_change_3 12 rfl rfl)
theorem dX6_change_85 : decode cX6_change 85 = .ok (.iload_n 2, 1) := dk_28 (dk_at dksX6_change_3 14 rfl rfl)
theorem dX6_change_86 : decode cX6_change 86 = .ok (.imul, 1) := dk_104 (dk_at dksX6_change_3 15 rfl rfl)
theorem dX6_change_87 : decode cX6_change 87 = .ok (.iadd, 1) := dk_96 (dk_at dksX6_change_3 16 rfl rfl)
theorem dX6_change_88 : decode cX6_change 88 = .ok (.iload_n 3, 1) := dk_29 (dk_at dksX6_change_3 17 rfl rfl)
theorem dX6_change_89 : decode cX6_change 89 = .ok (.iadd, 1) := dk_96 (dk_at dksX6_change_3 18 rfl rfl)
theorem dX6_change_90 : decode cX6_change 90 = .ok (.iload 5, 2) := dk_21 5 (dk_at dksX6_change_3 19 rfl rfl)
theorem dX6_change_92 : decode cX6_change 92 = .ok (.iastore, 1) := dk_79 (dk_at dksX6_change_3 21 rfl rfl)
theorem dX6_change_93 : decode cX6_change 93 = .ok (.iload 4, 2) := dk_21 4 (dk_at dksX6_change_3 22 rfl rfl)
theorem dX6_change_95 : decode cX6_change 95 = .ok (.ireturn, 1) := dk_172 (dk_at dksX6_change_4 0 rfl rfl)
abbrev cX6_mark : ByteArray := prog_19_method_78_code
def yX6_mark : MethodName := ⟨RX6, "mark", "(II)I"⟩
def dkwX6_mark_2 : List UInt8 := [96, 5, 96, 28, 182, 1, 88, 172]
abbrev dktX6_mark_2 : List UInt8 := dkwX6_mark_2 ++ []
def dkwX6_mark_1 : List UInt8 := [167, 0, 4, 3, 181, 0, 54, 42, 180, 0, 54, 158, 0, 7, 3, 167, 0, 16, 42, 16, 43, 6, 27, 104]
abbrev dktX6_mark_1 : List UInt8 := dkwX6_mark_1 ++ dktX6_mark_2
def dkwX6_mark_0 : List UInt8 := [42, 42, 27, 182, 1, 66, 154, 0, 7, 4, 167, 0, 18, 28, 3, 16, 63, 184, 0, 57, 154, 0, 7, 5]
abbrev dktX6_mark_0 : List UInt8 := dkwX6_mark_0 ++ dktX6_mark_1
theorem dksX6_mark_0 : cX6_mark.data.toList.drop 0 = dktX6_mark_0 := by decide +kernel
theorem dksX6_mark_1 : cX6_mark.data.toList.drop 24 = dktX6_mark_1 := dk_seg dksX6_mark_0 24 rfl rfl
theorem dksX6_mark_2 : cX6_mark.data.toList.drop 48 = dktX6_mark_2 := dk_seg dksX6_mark_1 24 rfl rfl
theorem dX6_mark_0 : decode cX6_mark 0 = .ok (.aload_n 0, 1) := dk_42 (dk_at dksX6_mark_0 0 rfl rfl)
theorem dX6_mark_1 : decode cX6_mark 1 = .ok (.aload_n 0, 1) := dk_42 (dk_at dksX6_mark_0 1 rfl rfl)
theorem dX6_mark_2 : decode cX6_mark 2 = .ok (.iload_n 1, 1) := dk_27 (dk_at dksX6_mark_0 2 rfl rfl)
theorem dX6_mark_3 : decode cX6_mark 3 = .ok (.invokevirtual 322, 3) := dk_182 1 66 (dk_at dksX6_mark_0 3 rfl rfl)
theorem dX6_mark_6 : decode cX6_mark 6 = .ok (.ifCond .ne 7, 3) := dk_154 0 7 (dk_at dksX6_mark_0 6 rfl rfl)
theorem dX6_mark_9 : decode cX6_mark 9 = .ok (.iconst 1, 1) := dk_4 (dk_at dksX6_mark_0 9 rfl rfl)
theorem dX6_mark_10 : decode cX6_mark 10 = .ok (.goto 18, 3) := dk_167 0 18 (dk_at dksX6_mark_0 10 rfl rfl)
theorem dX6_mark_13 : decode cX6_mark 13 = .ok (.iload_n 2, 1) := dk_28 (dk_at dksX6_mark_0 13 rfl rfl)
theorem dX6_mark_14 : decode cX6_mark 14 = .ok (.iconst 0, 1) := dk_3 (dk_at dksX6_mark_0 14 rfl rfl)
theorem dX6_mark_15 : decode cX6_mark 15 = .ok (.bipush 63, 2) := dk_16 63 (dk_at dksX6_mark_0 15 rfl rfl)
theorem dX6_mark_17 : decode cX6_mark 17 = .ok (.invokestatic 57, 3) := dk_184 0 57 (dk_at dksX6_mark_0 17 rfl rfl)
theorem dX6_mark_20 : decode cX6_mark 20 = .ok (.ifCond .ne 7, 3) := dk_154 0 7 (dk_at dksX6_mark_0 20 rfl rfl)
theorem dX6_mark_23 : decode cX6_mark 23 = .ok (.iconst 2, 1) := dk_5 (dk_at dksX6_mark_0 23 rfl rfl)
theorem dX6_mark_24 : decode cX6_mark 24 = .ok (.goto 4, 3) := dk_167 0 4 (dk_at dksX6_mark_1 0 rfl rfl)
theorem dX6_mark_27 : decode cX6_mark 27 = .ok (.iconst 0, 1) := dk_3 (dk_at dksX6_mark_1 3 rfl rfl)
theorem dX6_mark_28 : decode cX6_mark 28 = .ok (.putfield 54, 3) := dk_181 0 54 (dk_at dksX6_mark_1 4 rfl rfl)
theorem dX6_mark_31 : decode cX6_mark 31 = .ok (.aload_n 0, 1) := dk_42 (dk_at dksX6_mark_1 7 rfl rfl)
theorem dX6_mark_32 : decode cX6_mark 32 = .ok (.getfield 54, 3) := dk_180 0 54 (dk_at dksX6_mark_1 8 rfl rfl)
theorem dX6_mark_35 : decode cX6_mark 35 = .ok (.ifCond .le 7, 3) := dk_158 0 7 (dk_at dksX6_mark_1 11 rfl rfl)
theorem dX6_mark_38 : decode cX6_mark 38 = .ok (.iconst 0, 1) := dk_3 (dk_at dksX6_mark_1 14 rfl rfl)
theorem dX6_mark_39 : decode cX6_mark 39 = .ok (.goto 16, 3) := dk_167 0 16 (dk_at dksX6_mark_1 15 rfl rfl)
theorem dX6_mark_42 : decode cX6_mark 42 = .ok (.aload_n 0, 1) := dk_42 (dk_at dksX6_mark_1 18 rfl rfl)
theorem dX6_mark_43 : decode cX6_mark 43 = .ok (.bipush 43, 2) := dk_16 43 (dk_at dksX6_mark_1 19 rfl rfl)
theorem dX6_mark_45 : decode cX6_mark 45 = .ok (.iconst 3, 1) := dk_6 (dk_at dksX6_mark_1 21 rfl rfl)
theorem dX6_mark_46 : decode cX6_mark 46 = .ok (.iload_n 1, 1) := dk_27 (dk_at dksX6_mark_1 22 rfl rfl)
theorem dX6_mark_47 : decode cX6_mark 47 = .ok (.imul, 1) := dk_104 (dk_at dksX6_mark_1 23 rfl rfl)
theorem dX6_mark_48 : decode cX6_mark 48 = .ok (.iadd, 1) := dk_96 (dk_at dksX6_mark_2 0 rfl rfl)
theorem dX6_mark_49 : decode cX6_mark 49 = .ok (.iconst 2, 1) := dk_5 (dk_at dksX6_mark_2 1 rfl rfl)
theorem dX6_mark_50 : decode cX6_mark 50 = .ok (.iadd, 1) := dk_96 (dk_at dksX6_mark_2 2 rfl rfl)
theorem dX6_mark_51 : decode cX6_mark 51 = .ok (.iload_n 2, 1) := dk_28 (dk_at dksX6_mark_2 3 rfl rfl)
theorem dX6_mark_52 : decode cX6_mark 52 = .ok (.invokevirtual 344, 3) := dk_182 1 88 (dk_at dksX6_mark_2 4 rfl rfl)
theorem dX6_mark_55 : decode cX6_mark 55 = .ok (.ireturn, 1) := dk_172 (dk_at dksX6_mark_2 7 rfl rfl)
abbrev cX6_gate : ByteArray := prog_19_method_79_code
def yX6_gate : MethodName := ⟨RX6, "gate", "(II)I"⟩
def dkwX6_gate_3 : List UInt8 := [172]
abbrev dktX6_gate_3 : List UInt8 := dkwX6_gate_3 ++ []
def dkwX6_gate_2 : List UInt8 := [42, 16, 7, 27, 182, 1, 88, 54, 4, 42, 180, 0, 7, 16, 8, 28, 79, 16, 64, 21, 4, 104, 29, 96]
abbrev dktX6_gate_2 : List UInt8 := dkwX6_gate_2 ++ dktX6_gate_3
def dkwX6_gate_1 : List UInt8 := [167, 0, 4, 3, 181, 0, 54, 42, 180, 0, 54, 158, 0, 5, 3, 172, 42, 180, 0, 7, 16, 8, 46, 62]
abbrev dktX6_gate_1 : List UInt8 := dkwX6_gate_1 ++ dktX6_gate_2
def dkwX6_gate_0 : List UInt8 := [42, 27, 3, 16, 63, 184, 0, 57, 153, 0, 13, 28, 3, 16, 63, 184, 0, 57, 154, 0, 7, 4]
abbrev dktX6_gate_0 : List UInt8 := dkwX6_gate_0 ++ dktX6_gate_1
theorem dksX6_gate_0 : cX6_gate.data.toList.drop 0 = dktX6_gate_0 := by decide +kernel
theorem dksX6_gate_1 : cX6_gate.data.toList.drop 22 = dktX6_gate_1 := dk_seg dksX6_gate_0 22 rfl rfl
theorem dksX6_gate_2 : cX6_gate.data.toList.drop 46 = dktX6_gate_2 := dk_seg dksX6_gate_1 24 rfl rfl
theorem dksX6_gate_3 : cX6_gate.data.toList.drop 70 = dktX6_gate_3 := dk_seg dksX6_gate_2 24 rfl rfl
theorem dX6_gate_0 : decode cX6_gate 0 = .ok (.aload_n 0, 1) := dk_42 (dk_at dksX6_gate_0 0 rfl rfl)
theorem dX6_gate_1 : decode cX6_gate 1 = .ok (.iload_n 1, 1) := dk_27 (dk_at dksX6_gate_0 1 rfl rfl)
theorem dX6_gate_2 : decode cX6_gate 2 = .ok (.iconst 0, 1) := dk_3 (dk_at dksX6_gate_0 2 rfl rfl)
theorem dX6_gate_3 : decode cX6_gate 3 = .ok (.bipush 63, 2) := dk_16 63 (dk_at dksX6_gate_0 3 rfl rfl)
theorem dX6_gate_5 : decode cX6_gate 5 = .ok (.invokestatic 57, 3) := dk_184 0 57 (dk_at dksX6_gate_0 5 rfl rfl)
theorem dX6_gate_8 : decode cX6_gate 8 = .ok (.ifCond .eq 13, 3) := dk_153 0 13 (dk_at dksX6_gate_0 8 rfl rfl)
theorem dX6_gate_11 : decode cX6_gate 11 = .ok (.iload_n 2, 1) := dk_28 (dk_at dksX6_gate_0 11 rfl rfl)
theorem dX6_gate_12 : decode cX6_gate 12 = .ok (.iconst 0, 1) := dk_3 (dk_at dksX6_gate_0 12 rfl rfl)
theorem dX6_gate_13 : decode cX6_gate 13 = .ok (.bipush 63, 2) := dk_16 63 (dk_at dksX6_gate_0 13 rfl rfl)
theorem dX6_gate_15 : decode cX6_gate 15 = .ok (.invokestatic 57, 3) := dk_184 0 57 (dk_at dksX6_gate_0 15 rfl rfl)
theorem dX6_gate_18 : decode cX6_gate 18 = .ok (.ifCond .ne 7, 3) := dk_154 0 7 (dk_at dksX6_gate_0 18 rfl rfl)
theorem dX6_gate_21 : decode cX6_gate 21 = .ok (.iconst 1, 1) := dk_4 (dk_at dksX6_gate_0 21 rfl rfl)
theorem dX6_gate_22 : decode cX6_gate 22 = .ok (.goto 4, 3) := dk_167 0 4 (dk_at dksX6_gate_1 0 rfl rfl)
theorem dX6_gate_25 : decode cX6_gate 25 = .ok (.iconst 0, 1) := dk_3 (dk_at dksX6_gate_1 3 rfl rfl)
theorem dX6_gate_26 : decode cX6_gate 26 = .ok (.putfield 54, 3) := dk_181 0 54 (dk_at dksX6_gate_1 4 rfl rfl)
theorem dX6_gate_29 : decode cX6_gate 29 = .ok (.aload_n 0, 1) := dk_42 (dk_at dksX6_gate_1 7 rfl rfl)
theorem dX6_gate_30 : decode cX6_gate 30 = .ok (.getfield 54, 3) := dk_180 0 54 (dk_at dksX6_gate_1 8 rfl rfl)
theorem dX6_gate_33 : decode cX6_gate 33 = .ok (.ifCond .le 5, 3) := dk_158 0 5 (dk_at dksX6_gate_1 11 rfl rfl)
theorem dX6_gate_36 : decode cX6_gate 36 = .ok (.iconst 0, 1) := dk_3 (dk_at dksX6_gate_1 14 rfl rfl)
theorem dX6_gate_37 : decode cX6_gate 37 = .ok (.ireturn, 1) := dk_172 (dk_at dksX6_gate_1 15 rfl rfl)
theorem dX6_gate_38 : decode cX6_gate 38 = .ok (.aload_n 0, 1) := dk_42 (dk_at dksX6_gate_1 16 rfl rfl)
theorem dX6_gate_39 : decode cX6_gate 39 = .ok (.getfield 7, 3) := dk_180 0 7 (dk_at dksX6_gate_1 17 rfl rfl)
theorem dX6_gate_42 : decode cX6_gate 42 = .ok (.bipush 8, 2) := dk_16 8 (dk_at dksX6_gate_1 20 rfl rfl)
theorem dX6_gate_44 : decode cX6_gate 44 = .ok (.iaload, 1) := dk_46 (dk_at dksX6_gate_1 22 rfl rfl)
theorem dX6_gate_45 : decode cX6_gate 45 = .ok (.istore_n 3, 1) := dk_62 (dk_at dksX6_gate_1 23 rfl rfl)
theorem dX6_gate_46 : decode cX6_gate 46 = .ok (.aload_n 0, 1) := dk_42 (dk_at dksX6_gate_2 0 rfl rfl)
theorem dX6_gate_47 : decode cX6_gate 47 = .ok (.bipush 7, 2) := dk_16 7 (dk_at dksX6_gate_2 1 rfl rfl)
theorem dX6_gate_49 : decode cX6_gate 49 = .ok (.iload_n 1, 1) := dk_27 (dk_at dksX6_gate_2 3 rfl rfl)
theorem dX6_gate_50 : decode cX6_gate 50 = .ok (.invokevirtual 344, 3) := dk_182 1 88 (dk_at dksX6_gate_2 4 rfl rfl)
theorem dX6_gate_53 : decode cX6_gate 53 = .ok (.istore 4, 2) := dk_54 4 (dk_at dksX6_gate_2 7 rfl rfl)
theorem dX6_gate_55 : decode cX6_gate 55 = .ok (.aload_n 0, 1) := dk_42 (dk_at dksX6_gate_2 9 rfl rfl)
theorem dX6_gate_56 : decode cX6_gate 56 = .ok (.getfield 7, 3) := dk_180 0 7 (dk_at dksX6_gate_2 10 rfl rfl)
theorem dX6_gate_59 : decode cX6_gate 59 = .ok (.bipush 8, 2) := dk_16 8 (dk_at dksX6_gate_2 13 rfl rfl)
theorem dX6_gate_61 : decode cX6_gate 61 = .ok (.iload_n 2, 1) := dk_28 (dk_at dksX6_gate_2 15 rfl rfl)
theorem dX6_gate_62 : decode cX6_gate 62 = .ok (.iastore, 1) := dk_79 (dk_at dksX6_gate_2 16 rfl rfl)
theorem dX6_gate_63 : decode cX6_gate 63 = .ok (.bipush 64, 2) := dk_16 64 (dk_at dksX6_gate_2 17 rfl rfl)
theorem dX6_gate_65 : decode cX6_gate 65 = .ok (.iload 4, 2) := dk_21 4 (dk_at dksX6_gate_2 19 rfl rfl)
theorem dX6_gate_67 : decode cX6_gate 67 = .ok (.imul, 1) := dk_104 (dk_at dksX6_gate_2 21 rfl rfl)
theorem dX6_gate_68 : decode cX6_gate 68 = .ok (.iload_n 3, 1) := dk_29 (dk_at dksX6_gate_2 22 rfl rfl)
theorem dX6_gate_69 : decode cX6_gate 69 = .ok (.iadd, 1) := dk_96 (dk_at dksX6_gate_2 23 rfl rfl)
theorem dX6_gate_70 : decode cX6_gate 70 = .ok (.ireturn, 1) := dk_172 (dk_at dksX6_gate_3 0 rfl rfl)
abbrev cX6_value : ByteArray := prog_19_method_80_code
def yX6_value : MethodName := ⟨RX6, "value", "(IIZI)I"⟩
def dkwX6_value_3 : List UInt8 := [104, 96, 27, 96, 21, 4, 182, 1, 88, 172]
abbrev dktX6_value_3 : List UInt8 := dkwX6_value_3 ++ []
def dkwX6_value_2 : List UInt8 := [172, 42, 29, 153, 0, 15, 16, 67, 16, 8, 27, 104, 96, 28, 96, 167, 0, 13, 17, 0, 131, 16, 8, 28]
abbrev dktX6_value_2 : List UInt8 := dkwX6_value_2 ++ dktX6_value_3
def dkwX6_value_1 : List UInt8 := [16, 9, 184, 0, 57, 154, 0, 7, 5, 167, 0, 4, 3, 181, 0, 54, 42, 180, 0, 54, 158, 0, 5, 3]
abbrev dktX6_value_1 : List UInt8 := dkwX6_value_1 ++ dktX6_value_2
def dkwX6_value_0 : List UInt8 := [42, 42, 27, 182, 1, 54, 153, 0, 11, 42, 28, 182, 1, 66, 154, 0, 7, 4, 167, 0, 19, 21, 4, 3]
abbrev dktX6_value_0 : List UInt8 := dkwX6_value_0 ++ dktX6_value_1
theorem dksX6_value_0 : cX6_value.data.toList.drop 0 = dktX6_value_0 := by decide +kernel
theorem dksX6_value_1 : cX6_value.data.toList.drop 24 = dktX6_value_1 := dk_seg dksX6_value_0 24 rfl rfl
theorem dksX6_value_2 : cX6_value.data.toList.drop 48 = dktX6_value_2 := dk_seg dksX6_value_1 24 rfl rfl
theorem dksX6_value_3 : cX6_value.data.toList.drop 72 = dktX6_value_3 := dk_seg dksX6_value_2 24 rfl rfl
theorem dX6_value_0 : decode cX6_value 0 = .ok (.aload_n 0, 1) := dk_42 (dk_at dksX6_value_0 0 rfl rfl)
theorem dX6_value_1 : decode cX6_value 1 = .ok (.aload_n 0, 1) := dk_42 (dk_at dksX6_value_0 1 rfl rfl)
theorem dX6_value_2 : decode cX6_value 2 = .ok (.iload_n 1, 1) := dk_27 (dk_at dksX6_value_0 2 rfl rfl)
theorem dX6_value_3 : decode cX6_value 3 = .ok (.invokevirtual 310, 3) := dk_182 1 54 (dk_at dksX6_value_0 3 rfl rfl)
theorem dX6_value_6 : decode cX6_value 6 = .ok (.ifCond .eq 11, 3) := dk_153 0 11 (dk_at dksX6_value_0 6 rfl rfl)
theorem dX6_value_9 : decode cX6_value 9 = .ok (.aload_n 0, 1) := dk_42 (dk_at dksX6_value_0 9 rfl rfl)
theorem dX6_value_10 : decode cX6_value 10 = .ok (.iload_n 2, 1) := dk_28 (dk_at dksX6_value_0 10 rfl rfl)
theorem dX6_value_11 : decode cX6_value 11 = .ok (.invokevirtual 322, 3) := dk_182 1 66 (dk_at dksX6_value_0 11 rfl rfl)
theorem dX6_value_14 : decode cX6_value 14 = .ok (.ifCond .ne 7, 3) := dk_154 0 7 (dk_at dksX6_value_0 14 rfl rfl)
theorem dX6_value_17 : decode cX6_value 17 = .ok (.iconst 1, 1) := dk_4 (dk_at dksX6_value_0 17 rfl rfl)
theorem dX6_value_18 : decode cX6_value 18 = .ok (.goto 19, 3) := dk_167 0 19 (dk_at dksX6_value_0 18 rfl rfl)
theorem dX6_value_21 : decode cX6_value 21 = .ok (.iload 4, 2) := dk_21 4 (dk_at dksX6_value_0 21 rfl rfl)
theorem dX6_value_23 : decode cX6_value 23 = .ok (.iconst 0, 1) := dk_3 (dk_at dksX6_value_0 23 rfl rfl)
theorem dX6_value_24 : decode cX6_value 24 = .ok (.bipush 9, 2) := dk_16 9 (dk_at dksX6_value_1 0 rfl rfl)
theorem dX6_value_26 : decode cX6_value 26 = .ok (.invokestatic 57, 3) := dk_184 0 57 (dk_at dksX6_value_1 2 rfl rfl)
theorem dX6_value_29 : decode cX6_value 29 = .ok (.ifCond .ne 7, 3) := dk_154 0 7 (dk_at dksX6_value_1 5 rfl rfl)
theorem dX6_value_32 : decode cX6_value 32 = .ok (.iconst 2, 1) := dk_5 (dk_at dksX6_value_1 8 rfl rfl)
theorem dX6_value_33 : decode cX6_value 33 = .ok (.goto 4, 3) := dk_167 0 4 (dk_at dksX6_value_1 9 rfl rfl)
theorem dX6_value_36 : decode cX6_value 36 = .ok (.iconst 0, 1) := dk_3 (dk_at dksX6_value_1 12 rfl rfl)
theorem dX6_value_37 : decode cX6_value 37 = .ok (.putfield 54, 3) := dk_181 0 54 (dk_at dksX6_value_1 13 rfl rfl)
theorem dX6_value_40 : decode cX6_value 40 = .ok (.aload_n 0, 1) := dk_42 (dk_at dksX6_value_1 16 rfl rfl)
theorem dX6_value_41 : decode cX6_value 41 = .ok (.getfield 54, 3) := dk_180 0 54 (dk_at dksX6_value_1 17 rfl rfl)
theorem dX6_value_44 : decode cX6_value 44 = .ok (.ifCond .le 5, 3) := dk_158 0 5 (dk_at dksX6_value_1 20 rfl rfl)
theorem dX6_value_47 : decode cX6_value 47 = .ok (.iconst 0, 1) := dk_3 (dk_at dksX6_value_1 23 rfl rfl)
theorem dX6_value_48 : decode cX6_value 48 = .ok (.ireturn, 1) := dk_172 (dk_at dksX6_value_2 0 rfl rfl)
theorem dX6_value_49 : decode cX6_value 49 = .ok (.aload_n 0, 1) := dk_42 (dk_at dksX6_value_2 1 rfl rfl)
theorem dX6_value_50 : decode cX6_value 50 = .ok (.iload_n 3, 1) := dk_29 (dk_at dksX6_value_2 2 rfl rfl)
theorem dX6_value_51 : decode cX6_value 51 = .ok (.ifCond .eq 15, 3) := dk_153 0 15 (dk_at dksX6_value_2 3 rfl rfl)
theorem dX6_value_54 : decode cX6_value 54 = .ok (.bipush 67, 2) := dk_16 67 (dk_at dksX6_value_2 6 rfl rfl)
theorem dX6_value_56 : decode cX6_value 56 = .ok (.bipush 8, 2) := dk_16 8 (dk_at dksX6_value_2 8 rfl rfl)
theorem dX6_value_58 : decode cX6_value 58 = .ok (.iload_n 1, 1) := dk_27 (dk_at dksX6_value_2 10 rfl rfl)
theorem dX6_value_59 : decode cX6_value 59 = .ok (.imul, 1) := dk_104 (dk_at dksX6_value_2 11 rfl rfl)
theorem dX6_value_60 : decode cX6_value 60 = .ok (.iadd, 1) := dk_96 (dk_at dksX6_value_2 12 rfl rfl)
theorem dX6_value_61 : decode cX6_value 61 = .ok (.iload_n 2, 1) := dk_28 (dk_at dksX6_value_2 13 rfl rfl)
theorem dX6_value_62 : decode cX6_value 62 = .ok (.iadd, 1) := dk_96 (dk_at dksX6_value_2 14 rfl rfl)
theorem dX6_value_63 : decode cX6_value 63 = .ok (.goto 13, 3) := dk_167 0 13 (dk_at dksX6_value_2 15 rfl rfl)
theorem dX6_value_66 : decode cX6_value 66 = .ok (.sipush 131, 3) := dk_17 0 131 (dk_at dksX6_value_2 18 rfl rfl)
theorem dX6_value_69 : decode cX6_value 69 = .ok (.bipush 8, 2) := dk_16 8 (dk_at dksX6_value_2 21 rfl rfl)
theorem dX6_value_71 : decode cX6_value 71 = .ok (.iload_n 2, 1) := dk_28 (dk_at dksX6_value_2 23 rfl rfl)
theorem dX6_value_72 : decode cX6_value 72 = .ok (.imul, 1) := dk_104 (dk_at dksX6_value_3 0 rfl rfl)
theorem dX6_value_73 : decode cX6_value 73 = .ok (.iadd, 1) := dk_96 (dk_at dksX6_value_3 1 rfl rfl)
theorem dX6_value_74 : decode cX6_value 74 = .ok (.iload_n 1, 1) := dk_27 (dk_at dksX6_value_3 2 rfl rfl)
theorem dX6_value_75 : decode cX6_value 75 = .ok (.iadd, 1) := dk_96 (dk_at dksX6_value_3 3 rfl rfl)
theorem dX6_value_76 : decode cX6_value 76 = .ok (.iload 4, 2) := dk_21 4 (dk_at dksX6_value_3 4 rfl rfl)
theorem dX6_value_78 : decode cX6_value 78 = .ok (.invokevirtual 344, 3) := dk_182 1 88 (dk_at dksX6_value_3 6 rfl rfl)
theorem dX6_value_81 : decode cX6_value 81 = .ok (.ireturn, 1) := dk_172 (dk_at dksX6_value_3 9 rfl rfl)
abbrev cX6_weeks : ByteArray := prog_19_method_81_code
def yX6_weeks : MethodName := ⟨RX6, "weeks", "(I)I"⟩
def dkwX6_weeks_1 : List UInt8 := [158, 0, 5, 3, 172, 42, 182, 1, 85, 42, 27, 4, 182, 1, 91, 172]
abbrev dktX6_weeks_1 : List UInt8 := dkwX6_weeks_1 ++ []
def dkwX6_weeks_0 : List UInt8 := [42, 27, 4, 16, 60, 184, 0, 57, 154, 0, 7, 4, 167, 0, 4, 3, 181, 0, 54, 42, 180, 0, 54]
abbrev dktX6_weeks_0 : List UInt8 := dkwX6_weeks_0 ++ dktX6_weeks_1
theorem dksX6_weeks_0 : cX6_weeks.data.toList.drop 0 = dktX6_weeks_0 := by decide +kernel
theorem dksX6_weeks_1 : cX6_weeks.data.toList.drop 23 = dktX6_weeks_1 := dk_seg dksX6_weeks_0 23 rfl rfl
theorem dX6_weeks_0 : decode cX6_weeks 0 = .ok (.aload_n 0, 1) := dk_42 (dk_at dksX6_weeks_0 0 rfl rfl)
theorem dX6_weeks_1 : decode cX6_weeks 1 = .ok (.iload_n 1, 1) := dk_27 (dk_at dksX6_weeks_0 1 rfl rfl)
theorem dX6_weeks_2 : decode cX6_weeks 2 = .ok (.iconst 1, 1) := dk_4 (dk_at dksX6_weeks_0 2 rfl rfl)
theorem dX6_weeks_3 : decode cX6_weeks 3 = .ok (.bipush 60, 2) := dk_16 60 (dk_at dksX6_weeks_0 3 rfl rfl)
theorem dX6_weeks_5 : decode cX6_weeks 5 = .ok (.invokestatic 57, 3) := dk_184 0 57 (dk_at dksX6_weeks_0 5 rfl rfl)
theorem dX6_weeks_8 : decode cX6_weeks 8 = .ok (.ifCond .ne 7, 3) := dk_154 0 7 (dk_at dksX6_weeks_0 8 rfl rfl)
theorem dX6_weeks_11 : decode cX6_weeks 11 = .ok (.iconst 1, 1) := dk_4 (dk_at dksX6_weeks_0 11 rfl rfl)
theorem dX6_weeks_12 : decode cX6_weeks 12 = .ok (.goto 4, 3) := dk_167 0 4 (dk_at dksX6_weeks_0 12 rfl rfl)
theorem dX6_weeks_15 : decode cX6_weeks 15 = .ok (.iconst 0, 1) := dk_3 (dk_at dksX6_weeks_0 15 rfl rfl)
theorem dX6_weeks_16 : decode cX6_weeks 16 = .ok (.putfield 54, 3) := dk_181 0 54 (dk_at dksX6_weeks_0 16 rfl rfl)
theorem dX6_weeks_19 : decode cX6_weeks 19 = .ok (.aload_n 0, 1) := dk_42 (dk_at dksX6_weeks_0 19 rfl rfl)
theorem dX6_weeks_20 : decode cX6_weeks 20 = .ok (.getfield 54, 3) := dk_180 0 54 (dk_at dksX6_weeks_0 20 rfl rfl)
theorem dX6_weeks_23 : decode cX6_weeks 23 = .ok (.ifCond .le 5, 3) := dk_158 0 5 (dk_at dksX6_weeks_1 0 rfl rfl)
theorem dX6_weeks_26 : decode cX6_weeks 26 = .ok (.iconst 0, 1) := dk_3 (dk_at dksX6_weeks_1 3 rfl rfl)
theorem dX6_weeks_27 : decode cX6_weeks 27 = .ok (.ireturn, 1) := dk_172 (dk_at dksX6_weeks_1 4 rfl rfl)
theorem dX6_weeks_28 : decode cX6_weeks 28 = .ok (.aload_n 0, 1) := dk_42 (dk_at dksX6_weeks_1 5 rfl rfl)
theorem dX6_weeks_29 : decode cX6_weeks 29 = .ok (.invokevirtual 341, 3) := dk_182 1 85 (dk_at dksX6_weeks_1 6 rfl rfl)
theorem dX6_weeks_32 : decode cX6_weeks 32 = .ok (.aload_n 0, 1) := dk_42 (dk_at dksX6_weeks_1 9 rfl rfl)
theorem dX6_weeks_33 : decode cX6_weeks 33 = .ok (.iload_n 1, 1) := dk_27 (dk_at dksX6_weeks_1 10 rfl rfl)
theorem dX6_weeks_34 : decode cX6_weeks 34 = .ok (.iconst 1, 1) := dk_4 (dk_at dksX6_weeks_1 11 rfl rfl)
theorem dX6_weeks_35 : decode cX6_weeks 35 = .ok (.invokevirtual 347, 3) := dk_182 1 91 (dk_at dksX6_weeks_1 12 rfl rfl)
theorem dX6_weeks_38 : decode cX6_weeks 38 = .ok (.ireturn, 1) := dk_172 (dk_at dksX6_weeks_1 15 rfl rfl)
abbrev cX6_goes : ByteArray := prog_19_method_59_code
def yX6_goes : MethodName := ⟨RX6, "goes", "(IZ)I"⟩
def dkwX6_goes_5 : List UInt8 := [17, 39, 15, 42, 180, 0, 7, 16, 6, 46, 4, 96, 184, 0, 124, 79, 132, 4, 1, 167, 255, 128, 29, 172]
abbrev dktX6_goes_5 : List UInt8 := dkwX6_goes_5 ++ []
def dkwX6_goes_4 : List UInt8 := [21, 6, 21, 5, 21, 6, 184, 0, 74, 182, 1, 50, 132, 6, 1, 167, 255, 229, 42, 180, 0, 7, 16, 6]
abbrev dktX6_goes_4 : List UInt8 := dkwX6_goes_4 ++ dktX6_goes_5
def dkwX6_goes_3 : List UInt8 := [96, 62, 132, 6, 1, 167, 255, 201, 3, 54, 6, 21, 6, 42, 180, 0, 7, 6, 46, 162, 0, 22, 42]
abbrev dktX6_goes_3 : List UInt8 := dkwX6_goes_3 ++ dktX6_goes_4
def dkwX6_goes_2 : List UInt8 := [167, 0, 26, 42, 21, 6, 182, 1, 44, 54, 7, 21, 5, 21, 7, 128, 54, 5, 29, 21, 7, 184, 1, 47]
abbrev dktX6_goes_2 : List UInt8 := dkwX6_goes_2 ++ dktX6_goes_3
def dkwX6_goes_1 : List UInt8 := [16, 8, 162, 0, 54, 28, 153, 0, 21, 42, 16, 100, 182, 1, 41, 42, 180, 0, 7, 8, 46, 162, 0, 6]
abbrev dktX6_goes_1 : List UInt8 := dkwX6_goes_1 ++ dktX6_goes_2
def dkwX6_goes_0 : List UInt8 := [3, 62, 42, 3, 181, 1, 38, 3, 54, 4, 21, 4, 27, 162, 0, 128, 3, 54, 5, 3, 54, 6, 21, 6]
abbrev dktX6_goes_0 : List UInt8 := dkwX6_goes_0 ++ dktX6_goes_1
theorem dksX6_goes_0 : cX6_goes.data.toList.drop 0 = dktX6_goes_0 := by decide +kernel
theorem dksX6_goes_1 : cX6_goes.data.toList.drop 24 = dktX6_goes_1 := dk_seg dksX6_goes_0 24 rfl rfl
theorem dksX6_goes_2 : cX6_goes.data.toList.drop 48 = dktX6_goes_2 := dk_seg dksX6_goes_1 24 rfl rfl
theorem dksX6_goes_3 : cX6_goes.data.toList.drop 72 = dktX6_goes_3 := dk_seg dksX6_goes_2 24 rfl rfl
theorem dksX6_goes_4 : cX6_goes.data.toList.drop 95 = dktX6_goes_4 := dk_seg dksX6_goes_3 23 rfl rfl
theorem dksX6_goes_5 : cX6_goes.data.toList.drop 119 = dktX6_goes_5 := dk_seg dksX6_goes_4 24 rfl rfl
theorem dX6_goes_0 : decode cX6_goes 0 = .ok (.iconst 0, 1) := dk_3 (dk_at dksX6_goes_0 0 rfl rfl)
theorem dX6_goes_1 : decode cX6_goes 1 = .ok (.istore_n 3, 1) := dk_62 (dk_at dksX6_goes_0 1 rfl rfl)
theorem dX6_goes_2 : decode cX6_goes 2 = .ok (.aload_n 0, 1) := dk_42 (dk_at dksX6_goes_0 2 rfl rfl)
theorem dX6_goes_3 : decode cX6_goes 3 = .ok (.iconst 0, 1) := dk_3 (dk_at dksX6_goes_0 3 rfl rfl)
theorem dX6_goes_4 : decode cX6_goes 4 = .ok (.putfield 294, 3) := dk_181 1 38 (dk_at dksX6_goes_0 4 rfl rfl)
theorem dX6_goes_7 : decode cX6_goes 7 = .ok (.iconst 0, 1) := dk_3 (dk_at dksX6_goes_0 7 rfl rfl)
theorem dX6_goes_8 : decode cX6_goes 8 = .ok (.istore 4, 2) := dk_54 4 (dk_at dksX6_goes_0 8 rfl rfl)
theorem dX6_goes_10 : decode cX6_goes 10 = .ok (.iload 4, 2) := dk_21 4 (dk_at dksX6_goes_0 10 rfl rfl)
theorem dX6_goes_12 : decode cX6_goes 12 = .ok (.iload_n 1, 1) := dk_27 (dk_at dksX6_goes_0 12 rfl rfl)
theorem dX6_goes_13 : decode cX6_goes 13 = .ok (.if_icmp .ge 128, 3) := dk_162 0 128 (dk_at dksX6_goes_0 13 rfl rfl)
theorem dX6_goes_16 : decode cX6_goes 16 = .ok (.iconst 0, 1) := dk_3 (dk_at dksX6_goes_0 16 rfl rfl)
theorem dX6_goes_17 : decode cX6_goes 17 = .ok (.istore 5, 2) := dk_54 5 (dk_at dksX6_goes_0 17 rfl rfl)
theorem dX6_goes_19 : decode cX6_goes 19 = .ok (.iconst 0, 1) := dk_3 (dk_at dksX6_goes_0 19 rfl rfl)
theorem dX6_goes_20 : decode cX6_goes 20 = .ok (.istore 6, 2) := dk_54 6 (dk_at dksX6_goes_0 20 rfl rfl)
theorem dX6_goes_22 : decode cX6_goes 22 = .ok (.iload 6, 2) := dk_21 6 (dk_at dksX6_goes_0 22 rfl rfl)
theorem dX6_goes_24 : decode cX6_goes 24 = .ok (.bipush 8, 2) := dk_16 8 (dk_at dksX6_goes_1 0 rfl rfl)
theorem dX6_goes_26 : decode cX6_goes 26 = .ok (.if_icmp .ge 54, 3) := dk_162 0 54 (dk_at dksX6_goes_1 2 rfl rfl)
theorem dX6_goes_29 : decode cX6_goes 29 = .ok (.iload_n 2, 1) := dk_28 (dk_at dksX6_goes_1 5 rfl rfl)
theorem dX6_goes_30 : decode cX6_goes 30 = .ok (.ifCond .eq 21, 3) := dk_153 0 21 (dk_at dksX6_goes_1 6 rfl rfl)
theorem dX6_goes_33 : decode cX6_goes 33 = .ok (.aload_n 0, 1) := dk_42 (dk_at dksX6_goes_1 9 rfl rfl)
theorem dX6_goes_34 : decode cX6_goes 34 = .ok (.bipush 100, 2) := dk_16 100 (dk_at dksX6_goes_1 10 rfl rfl)
theorem dX6_goes_36 : decode cX6_goes 36 = .ok (.invokevirtual 297, 3) := dk_182 1 41 (dk_at dksX6_goes_1 12 rfl rfl)
theorem dX6_goes_39 : decode cX6_goes 39 = .ok (.aload_n 0, 1) := dk_42 (dk_at dksX6_goes_1 15 rfl rfl)
theorem dX6_goes_40 : decode cX6_goes 40 = .ok (.getfield 7, 3) := dk_180 0 7 (dk_at dksX6_goes_1 16 rfl rfl)
theorem dX6_goes_43 : decode cX6_goes 43 = .ok (.iconst 5, 1) := dk_8 (dk_at dksX6_goes_1 19 rfl rfl)
theorem dX6_goes_44 : decode cX6_goes 44 = .ok (.iaload, 1) := dk_46 (dk_at dksX6_goes_1 20 rfl rfl)
theorem dX6_goes_45 : decode cX6_goes 45 = .ok (.if_icmp .ge 6, 3) := dk_162 0 6 (dk_at dksX6_goes_1 21 rfl rfl)
theorem dX6_goes_48 : decode cX6_goes 48 = .ok (.goto 26, 3) := dk_167 0 26 (dk_at dksX6_goes_2 0 rfl rfl)
theorem dX6_goes_51 : decode cX6_goes 51 = .ok (.aload_n 0, 1) := dk_42 (dk_at dksX6_goes_2 3 rfl rfl)
theorem dX6_goes_52 : decode cX6_goes 52 = .ok (.iload 6, 2) := dk_21 6 (dk_at dksX6_goes_2 4 rfl rfl)
theorem dX6_goes_54 : decode cX6_goes 54 = .ok (.invokevirtual 300, 3) := dk_182 1 44 (dk_at dksX6_goes_2 6 rfl rfl)
theorem dX6_goes_57 : decode cX6_goes 57 = .ok (.istore 7, 2) := dk_54 7 (dk_at dksX6_goes_2 9 rfl rfl)
theorem dX6_goes_59 : decode cX6_goes 59 = .ok (.iload 5, 2) := dk_21 5 (dk_at dksX6_goes_2 11 rfl rfl)
theorem dX6_goes_61 : decode cX6_goes 61 = .ok (.iload 7, 2) := dk_21 7 (dk_at dksX6_goes_2 13 rfl rfl)
theorem dX6_goes_63 : decode cX6_goes 63 = .ok (.ior, 1) := dk_128 (dk_at dksX6_goes_2 15 rfl rfl)
theorem dX6_goes_64 : decode cX6_goes 64 = .ok (.istore 5, 2) := dk_54 5 (dk_at dksX6_goes_2 16 rfl rfl)
theorem dX6_goes_66 : decode cX6_goes 66 = .ok (.iload_n 3, 1) := dk_29 (dk_at dksX6_goes_2 18 rfl rfl)
theorem dX6_goes_67 : decode cX6_goes 67 = .ok (.iload 7, 2) := dk_21 7 (dk_at dksX6_goes_2 19 rfl rfl)
theorem dX6_goes_69 : decode cX6_goes 69 = .ok (.invokestatic 303, 3) := dk_184 1 47 (dk_at dksX6_goes_2 21 rfl rfl)
theorem dX6_goes_72 : decode cX6_goes 72 = .ok (.iadd, 1) := dk_96 (dk_at dksX6_goes_3 0 rfl rfl)
theorem dX6_goes_73 : decode cX6_goes 73 = .ok (.istore_n 3, 1) := dk_62 (dk_at dksX6_goes_3 1 rfl rfl)
theorem dX6_goes_74 : decode cX6_goes 74 = .ok (.iinc 6 1, 3) := dk_132 6 1 (dk_at dksX6_goes_3 2 rfl rfl)
theorem dX6_goes_77 : decode cX6_goes 77 = .ok (.goto (-55), 3) := dk_167 255 201 (dk_at dksX6_goes_3 5 rfl rfl)
theorem dX6_goes_80 : decode cX6_goes 80 = .ok (.iconst 0, 1) := dk_3 (dk_at dksX6_goes_3 8 rfl rfl)
theorem dX6_goes_81 : decode cX6_goes 81 = .ok (.istore 6, 2) := dk_54 6 (dk_at dksX6_goes_3 9 rfl rfl)
theorem dX6_goes_83 : decode cX6_goes 83 = .ok (.iload 6, 2) := dk_21 6 (dk_at dksX6_goes_3 11 rfl rfl)
theorem dX6_goes_85 : decode cX6_goes 85 = .ok (.aload_n 0, 1) := dk_42 (dk_at dksX6_goes_3 13 rfl rfl)
theorem dX6_goes_86 : decode cX6_goes 86 = .ok (.getfield 7, 3) := dk_180 0 7 (dk_at dksX6_goes_3 14 rfl rfl)
theorem dX6_goes_89 : decode cX6_goes 89 = .ok (.iconst 3, 1) := dk_6 (dk_at dksX6_goes_3 17 rfl rfl)
theorem dX6_goes_90 : decode cX6_goes 90 = .ok (.iaload, 1) := dk_46 (dk_at dksX6_goes_3 18 rfl rfl)
theorem dX6_goes_91 : decode cX6_goes 91 = .ok (.if_icmp .ge 22, 3) := dk_162 0 22 (dk_at dksX6_goes_3 19 rfl rfl)
theorem dX6_goes_94 : decode cX6_goes 94 = .ok (.aload_n 0, 1) := dk_42 (dk_at dksX6_goes_3 22 rfl rfl)
theorem dX6_goes_95 : decode cX6_goes 95 = .ok (.iload 6, 2) := dk_21 6 (dk_at dksX6_goes_4 0 rfl rfl)
theorem dX6_goes_97 : decode cX6_goes 97 = .ok (.iload 5, 2) := dk_21 5 (dk_at dksX6_goes_4 2 rfl rfl)
theorem dX6_goes_99 : decode cX6_goes 99 = .ok (.iload 6, 2) := dk_21 6 (dk_at dksX6_goes_4 4 rfl rfl)
theorem dX6_goes_101 : decode cX6_goes 101 = .ok (.invokestatic 74, 3) := dk_184 0 74 (dk_at dksX6_goes_4 6 rfl rfl)
theorem dX6_goes_104 : decode cX6_goes 104 = .ok (.invokevirtual 306, 3) := dk_182 1 50 (dk_at dksX6_goes_4 9 rfl rfl)
theorem dX6_goes_107 : decode cX6_goes 107 = .ok (.iinc 6 1, 3) := dk_132 6 1 (dk_at dksX6_goes_4 12 rfl rfl)
theorem dX6_goes_110 : decode cX6_goes 110 = .ok (.goto (-27), 3) := dk_167 255 229 (dk_at dksX6_goes_4 15 rfl rfl)
theorem dX6_goes_113 : decode cX6_goes 113 = .ok (.aload_n 0, 1) := dk_42 (dk_at dksX6_goes_4 18 rfl rfl)
theorem dX6_goes_114 : decode cX6_goes 114 = .ok (.getfield 7, 3) := dk_180 0 7 (dk_at dksX6_goes_4 19 rfl rfl)
theorem dX6_goes_117 : decode cX6_goes 117 = .ok (.bipush 6, 2) := dk_16 6 (dk_at dksX6_goes_4 22 rfl rfl)
theorem dX6_goes_119 : decode cX6_goes 119 = .ok (.sipush 9999, 3) := dk_17 39 15 (dk_at dksX6_goes_5 0 rfl rfl)
theorem dX6_goes_122 : decode cX6_goes 122 = .ok (.aload_n 0, 1) := dk_42 (dk_at dksX6_goes_5 3 rfl rfl)
theorem dX6_goes_123 : decode cX6_goes 123 = .ok (.getfield 7, 3) := dk_180 0 7 (dk_at dksX6_goes_5 4 rfl rfl)
theorem dX6_goes_126 : decode cX6_goes 126 = .ok (.bipush 6, 2) := dk_16 6 (dk_at dksX6_goes_5 7 rfl rfl)
theorem dX6_goes_128 : decode cX6_goes 128 = .ok (.iaload, 1) := dk_46 (dk_at dksX6_goes_5 9 rfl rfl)
theorem dX6_goes_129 : decode cX6_goes 129 = .ok (.iconst 1, 1) := dk_4 (dk_at dksX6_goes_5 10 rfl rfl)
theorem dX6_goes_130 : decode cX6_goes 130 = .ok (.iadd, 1) := dk_96 (dk_at dksX6_goes_5 11 rfl rfl)
theorem dX6_goes_131 : decode cX6_goes 131 = .ok (.invokestatic 124, 3) := dk_184 0 124 (dk_at dksX6_goes_5 12 rfl rfl)
theorem dX6_goes_134 : decode cX6_goes 134 = .ok (.iastore, 1) := dk_79 (dk_at dksX6_goes_5 15 rfl rfl)
theorem dX6_goes_135 : decode cX6_goes 135 = .ok (.iinc 4 1, 3) := dk_132 4 1 (dk_at dksX6_goes_5 16 rfl rfl)
theorem dX6_goes_138 : decode cX6_goes 138 = .ok (.goto (-128), 3) := dk_167 255 128 (dk_at dksX6_goes_5 19 rfl rfl)
theorem dX6_goes_141 : decode cX6_goes 141 = .ok (.iload_n 3, 1) := dk_29 (dk_at dksX6_goes_5 22 rfl rfl)
theorem dX6_goes_142 : decode cX6_goes 142 = .ok (.ireturn, 1) := dk_172 (dk_at dksX6_goes_5 23 rfl rfl)
abbrev cX6_draw : ByteArray := prog_19_method_55_code
def yX6_draw : MethodName := ⟨RX6, "draw", "(I)I"⟩
def dkwX6_draw_1 : List UInt8 := [180, 0, 7, 16, 10, 46, 16, 16, 124, 17, 127, 255, 126, 27, 112, 172]
abbrev dktX6_draw_1 : List UInt8 := dkwX6_draw_1 ++ []
def dkwX6_draw_0 : List UInt8 := [42, 180, 0, 7, 16, 10, 19, 1, 30, 42, 180, 0, 7, 16, 10, 46, 104, 17, 48, 57, 96, 79, 42]
abbrev dktX6_draw_0 : List UInt8 := dkwX6_draw_0 ++ dktX6_draw_1
theorem dksX6_draw_0 : cX6_draw.data.toList.drop 0 = dktX6_draw_0 := by decide +kernel
theorem dksX6_draw_1 : cX6_draw.data.toList.drop 23 = dktX6_draw_1 := dk_seg dksX6_draw_0 23 rfl rfl
theorem dX6_draw_0 : decode cX6_draw 0 = .ok (.aload_n 0, 1) := dk_42 (dk_at dksX6_draw_0 0 rfl rfl)
theorem dX6_draw_1 : decode cX6_draw 1 = .ok (.getfield 7, 3) := dk_180 0 7 (dk_at dksX6_draw_0 1 rfl rfl)
theorem dX6_draw_4 : decode cX6_draw 4 = .ok (.bipush 10, 2) := dk_16 10 (dk_at dksX6_draw_0 4 rfl rfl)
theorem dX6_draw_6 : decode cX6_draw 6 = .ok (.ldc_w 286, 3) := dk_19 1 30 (dk_at dksX6_draw_0 6 rfl rfl)
theorem dX6_draw_9 : decode cX6_draw 9 = .ok (.aload_n 0, 1) := dk_42 (dk_at dksX6_draw_0 9 rfl rfl)
theorem dX6_draw_10 : decode cX6_draw 10 = .ok (.getfield 7, 3) := dk_180 0 7 (dk_at dksX6_draw_0 10 rfl rfl)
theorem dX6_draw_13 : decode cX6_draw 13 = .ok (.bipush 10, 2) := dk_16 10 (dk_at dksX6_draw_0 13 rfl rfl)
theorem dX6_draw_15 : decode cX6_draw 15 = .ok (.iaload, 1) := dk_46 (dk_at dksX6_draw_0 15 rfl rfl)
theorem dX6_draw_16 : decode cX6_draw 16 = .ok (.imul, 1) := dk_104 (dk_at dksX6_draw_0 16 rfl rfl)
theorem dX6_draw_17 : decode cX6_draw 17 = .ok (.sipush 12345, 3) := dk_17 48 57 (dk_at dksX6_draw_0 17 rfl rfl)
theorem dX6_draw_20 : decode cX6_draw 20 = .ok (.iadd, 1) := dk_96 (dk_at dksX6_draw_0 20 rfl rfl)
theorem dX6_draw_21 : decode cX6_draw 21 = .ok (.iastore, 1) := dk_79 (dk_at dksX6_draw_0 21 rfl rfl)
theorem dX6_draw_22 : decode cX6_draw 22 = .ok (.aload_n 0, 1) := dk_42 (dk_at dksX6_draw_0 22 rfl rfl)
theorem dX6_draw_23 : decode cX6_draw 23 = .ok (.getfield 7, 3) := dk_180 0 7 (dk_at dksX6_draw_1 0 rfl rfl)
theorem dX6_draw_26 : decode cX6_draw 26 = .ok (.bipush 10, 2) := dk_16 10 (dk_at dksX6_draw_1 3 rfl rfl)
theorem dX6_draw_28 : decode cX6_draw 28 = .ok (.iaload, 1) := dk_46 (dk_at dksX6_draw_1 5 rfl rfl)
theorem dX6_draw_29 : decode cX6_draw 29 = .ok (.bipush 16, 2) := dk_16 16 (dk_at dksX6_draw_1 6 rfl rfl)
theorem dX6_draw_31 : decode cX6_draw 31 = .ok (.iushr, 1) := dk_124 (dk_at dksX6_draw_1 8 rfl rfl)
theorem dX6_draw_32 : decode cX6_draw 32 = .ok (.sipush 32767, 3) := dk_17 127 255 (dk_at dksX6_draw_1 9 rfl rfl)
theorem dX6_draw_35 : decode cX6_draw 35 = .ok (.iand, 1) := dk_126 (dk_at dksX6_draw_1 12 rfl rfl)
theorem dX6_draw_36 : decode cX6_draw 36 = .ok (.iload_n 1, 1) := dk_27 (dk_at dksX6_draw_1 13 rfl rfl)
theorem dX6_draw_37 : decode cX6_draw 37 = .ok (.irem, 1) := dk_112 (dk_at dksX6_draw_1 14 rfl rfl)
theorem dX6_draw_38 : decode cX6_draw 38 = .ok (.ireturn, 1) := dk_172 (dk_at dksX6_draw_1 15 rfl rfl)
abbrev cX6_meet : ByteArray := prog_19_method_57_code
def yX6_meet : MethodName := ⟨RX6, "meet", "(I)I"⟩
def dkwX6_meet_4 : List UInt8 := [167, 255, 167, 28, 172]
abbrev dktX6_meet_4 : List UInt8 := dkwX6_meet_4 ++ []
def dkwX6_meet_3 : List UInt8 := [182, 0, 140, 42, 29, 21, 4, 27, 3, 21, 5, 182, 1, 34, 28, 4, 29, 120, 128, 61, 132, 3, 1]
abbrev dktX6_meet_3 : List UInt8 := dkwX6_meet_3 ++ dktX6_meet_4
def dkwX6_meet_2 : List UInt8 := [184, 1, 21, 54, 5, 42, 29, 5, 17, 3, 231, 42, 29, 5, 182, 0, 68, 21, 5, 96, 184, 0, 124]
abbrev dktX6_meet_2 : List UInt8 := dkwX6_meet_2 ++ dktX6_meet_3
def dkwX6_meet_1 : List UInt8 := [167, 0, 67, 42, 29, 27, 182, 1, 15, 54, 4, 3, 42, 29, 21, 4, 182, 0, 61, 42, 180, 1, 10, 96]
abbrev dktX6_meet_1 : List UInt8 := dkwX6_meet_1 ++ dktX6_meet_2
def dkwX6_meet_0 : List UInt8 := [3, 61, 3, 62, 29, 42, 180, 0, 7, 6, 46, 162, 0, 85, 42, 29, 27, 182, 1, 31, 154, 0, 6]
abbrev dktX6_meet_0 : List UInt8 := dkwX6_meet_0 ++ dktX6_meet_1
theorem dksX6_meet_0 : cX6_meet.data.toList.drop 0 = dktX6_meet_0 := by decide +kernel
theorem dksX6_meet_1 : cX6_meet.data.toList.drop 23 = dktX6_meet_1 := dk_seg dksX6_meet_0 23 rfl rfl
theorem dksX6_meet_2 : cX6_meet.data.toList.drop 47 = dktX6_meet_2 := dk_seg dksX6_meet_1 24 rfl rfl
theorem dksX6_meet_3 : cX6_meet.data.toList.drop 70 = dktX6_meet_3 := dk_seg dksX6_meet_2 23 rfl rfl
theorem dksX6_meet_4 : cX6_meet.data.toList.drop 93 = dktX6_meet_4 := dk_seg dksX6_meet_3 23 rfl rfl
theorem dX6_meet_0 : decode cX6_meet 0 = .ok (.iconst 0, 1) := dk_3 (dk_at dksX6_meet_0 0 rfl rfl)
theorem dX6_meet_1 : decode cX6_meet 1 = .ok (.istore_n 2, 1) := dk_61 (dk_at dksX6_meet_0 1 rfl rfl)
theorem dX6_meet_2 : decode cX6_meet 2 = .ok (.iconst 0, 1) := dk_3 (dk_at dksX6_meet_0 2 rfl rfl)
theorem dX6_meet_3 : decode cX6_meet 3 = .ok (.istore_n 3, 1) := dk_62 (dk_at dksX6_meet_0 3 rfl rfl)
theorem dX6_meet_4 : decode cX6_meet 4 = .ok (.iload_n 3, 1) := dk_29 (dk_at dksX6_meet_0 4 rfl rfl)
theorem dX6_meet_5 : decode cX6_meet 5 = .ok (.aload_n 0, 1) := dk_42 (dk_at dksX6_meet_0 5 rfl rfl)
theorem dX6_meet_6 : decode cX6_meet 6 = .ok (.getfield 7, 3) := dk_180 0 7 (dk_at dksX6_meet_0 6 rfl rfl)
theorem dX6_meet_9 : decode cX6_meet 9 = .ok (.iconst 3, 1) := dk_6 (dk_at dksX6_meet_0 9 rfl rfl)
theorem dX6_meet_10 : decode cX6_meet 10 = .ok (.iaload, 1) := dk_46 (dk_at dksX6_meet_0 10 rfl rfl)
theorem dX6_meet_11 : decode cX6_meet 11 = .ok (.if_icmp .ge 85, 3) := dk_162 0 85 (dk_at dksX6_meet_0 11 rfl rfl)
theorem dX6_meet_14 : decode cX6_meet 14 = .ok (.aload_n 0, 1) := dk_42 (dk_at dksX6_meet_0 14 rfl rfl)
theorem dX6_meet_15 : decode cX6_meet 15 = .ok (.iload_n 3, 1) := dk_29 (dk_at dksX6_meet_0 15 rfl rfl)
theorem dX6_meet_16 : decode cX6_meet 16 = .ok (.iload_n 1, 1) := dk_27 (dk_at dksX6_meet_0 16 rfl rfl)
theorem dX6_meet_17 : decode cX6_meet 17 = .ok (.invokevirtual 287, 3) := dk_182 1 31 (dk_at dksX6_meet_0 17 rfl rfl)
theorem dX6_meet_20 : decode cX6_meet 20 = .ok (.ifCond .ne 6, 3) := dk_154 0 6 (dk_at dksX6_meet_0 20 rfl rfl)
theorem dX6_meet_23 : decode cX6_meet 23 = .ok (.goto 67, 3) := dk_167 0 67 (dk_at dksX6_meet_1 0 rfl rfl)
theorem dX6_meet_26 : decode cX6_meet 26 = .ok (.aload_n 0, 1) := dk_42 (dk_at dksX6_meet_1 3 rfl rfl)
theorem dX6_meet_27 : decode cX6_meet 27 = .ok (.iload_n 3, 1) := dk_29 (dk_at dksX6_meet_1 4 rfl rfl)
theorem dX6_meet_28 : decode cX6_meet 28 = .ok (.iload_n 1, 1) := dk_27 (dk_at dksX6_meet_1 5 rfl rfl)
theorem dX6_meet_29 : decode cX6_meet 29 = .ok (.invokevirtual 271, 3) := dk_182 1 15 (dk_at dksX6_meet_1 6 rfl rfl)
theorem dX6_meet_32 : decode cX6_meet 32 = .ok (.istore 4, 2) := dk_54 4 (dk_at dksX6_meet_1 9 rfl rfl)
theorem dX6_meet_34 : decode cX6_meet 34 = .ok (.iconst 0, 1) := dk_3 (dk_at dksX6_meet_1 11 rfl rfl)
theorem dX6_meet_35 : decode cX6_meet 35 = .ok (.aload_n 0, 1) := dk_42 (dk_at dksX6_meet_1 12 rfl rfl)
theorem dX6_meet_36 : decode cX6_meet 36 = .ok (.iload_n 3, 1) := dk_29 (dk_at dksX6_meet_1 13 rfl rfl)
theorem dX6_meet_37 : decode cX6_meet 37 = .ok (.iload 4, 2) := dk_21 4 (dk_at dksX6_meet_1 14 rfl rfl)
theorem dX6_meet_39 : decode cX6_meet 39 = .ok (.invokevirtual 61, 3) := dk_182 0 61 (dk_at dksX6_meet_1 16 rfl rfl)
theorem dX6_meet_42 : decode cX6_meet 42 = .ok (.aload_n 0, 1) := dk_42 (dk_at dksX6_meet_1 19 rfl rfl)
theorem dX6_meet_43 : decode cX6_meet 43 = .ok (.getfield 266, 3) := dk_180 1 10 (dk_at dksX6_meet_1 20 rfl rfl)
theorem dX6_meet_46 : decode cX6_meet 46 = .ok (.iadd, 1) := dk_96 (dk_at dksX6_meet_1 23 rfl rfl)
theorem dX6_meet_47 : decode cX6_meet 47 = .ok (.invokestatic 277, 3) := dk_184 1 21 (dk_at dksX6_meet_2 0 rfl rfl)
theorem dX6_meet_50 : decode cX6_meet 50 = .ok (.istore 5, 2) := dk_54 5 (dk_at dksX6_meet_2 3 rfl rfl)
theorem dX6_meet_52 : decode cX6_meet 52 = .ok (.aload_n 0, 1) := dk_42 (dk_at dksX6_meet_2 5 rfl rfl)
theorem dX6_meet_53 : decode cX6_meet 53 = .ok (.iload_n 3, 1) := dk_29 (dk_at dksX6_meet_2 6 rfl rfl)
theorem dX6_meet_54 : decode cX6_meet 54 = .ok (.iconst 2, 1) := dk_5 (dk_at dksX6_meet_2 7 rfl rfl)
theorem dX6_meet_55 : decode cX6_meet 55 = .ok (.sipush 999, 3) := dk_17 3 231 (dk_at dksX6_meet_2 8 rfl rfl)
theorem dX6_meet_58 : decode cX6_meet 58 = .ok (.aload_n 0, 1) := dk_42 (dk_at dksX6_meet_2 11 rfl rfl)
theorem dX6_meet_59 : decode cX6_meet 59 = .ok (.iload_n 3, 1) := dk_29 (dk_at dksX6_meet_2 12 rfl rfl)
theorem dX6_meet_60 : decode cX6_meet 60 = .ok (.iconst 2, 1) := dk_5 (dk_at dksX6_meet_2 13 rfl rfl)
theorem dX6_meet_61 : decode cX6_meet 61 = .ok (.invokevirtual 68, 3) := dk_182 0 68 (dk_at dksX6_meet_2 14 rfl rfl)
theorem dX6_meet_64 : decode cX6_meet 64 = .ok (.iload 5, 2) := dk_21 5 (dk_at dksX6_meet_2 17 rfl rfl)
theorem dX6_meet_66 : decode cX6_meet 66 = .ok (.iadd, 1) := dk_96 (dk_at dksX6_meet_2 19 rfl rfl)
theorem dX6_meet_67 : decode cX6_meet 67 = .ok (.invokestatic 124, 3) := dk_184 0 124 (dk_at dksX6_meet_2 20 rfl rfl)
theorem dX6_meet_70 : decode cX6_meet 70 = .ok (.invokevirtual 140, 3) := dk_182 0 140 (dk_at dksX6_meet_3 0 rfl rfl)
theorem dX6_meet_73 : decode cX6_meet 73 = .ok (.aload_n 0, 1) := dk_42 (dk_at dksX6_meet_3 3 rfl rfl)
theorem dX6_meet_74 : decode cX6_meet 74 = .ok (.iload_n 3, 1) := dk_29 (dk_at dksX6_meet_3 4 rfl rfl)
theorem dX6_meet_75 : decode cX6_meet 75 = .ok (.iload 4, 2) := dk_21 4 (dk_at dksX6_meet_3 5 rfl rfl)
theorem dX6_meet_77 : decode cX6_meet 77 = .ok (.iload_n 1, 1) := dk_27 (dk_at dksX6_meet_3 7 rfl rfl)
theorem dX6_meet_78 : decode cX6_meet 78 = .ok (.iconst 0, 1) := dk_3 (dk_at dksX6_meet_3 8 rfl rfl)
theorem dX6_meet_79 : decode cX6_meet 79 = .ok (.iload 5, 2) := dk_21 5 (dk_at dksX6_meet_3 9 rfl rfl)
theorem dX6_meet_81 : decode cX6_meet 81 = .ok (.invokevirtual 290, 3) := dk_182 1 34 (dk_at dksX6_meet_3 11 rfl rfl)
theorem dX6_meet_84 : decode cX6_meet 84 = .ok (.iload_n 2, 1) := dk_28 (dk_at dksX6_meet_3 14 rfl rfl)
theorem dX6_meet_85 : decode cX6_meet 85 = .ok (.iconst 1, 1) := dk_4 (dk_at dksX6_meet_3 15 rfl rfl)
theorem dX6_meet_86 : decode cX6_meet 86 = .ok (.iload_n 3, 1) := dk_29 (dk_at dksX6_meet_3 16 rfl rfl)
theorem dX6_meet_87 : decode cX6_meet 87 = .ok (.ishl, 1) := dk_120 (dk_at dksX6_meet_3 17 rfl rfl)
theorem dX6_meet_88 : decode cX6_meet 88 = .ok (.ior, 1) := dk_128 (dk_at dksX6_meet_3 18 rfl rfl)
theorem dX6_meet_89 : decode cX6_meet 89 = .ok (.istore_n 2, 1) := dk_61 (dk_at dksX6_meet_3 19 rfl rfl)
theorem dX6_meet_90 : decode cX6_meet 90 = .ok (.iinc 3 1, 3) := dk_132 3 1 (dk_at dksX6_meet_3 20 rfl rfl)
theorem dX6_meet_93 : decode cX6_meet 93 = .ok (.goto (-89), 3) := dk_167 255 167 (dk_at dksX6_meet_4 0 rfl rfl)
theorem dX6_meet_96 : decode cX6_meet 96 = .ok (.iload_n 2, 1) := dk_28 (dk_at dksX6_meet_4 3 rfl rfl)
theorem dX6_meet_97 : decode cX6_meet 97 = .ok (.ireturn, 1) := dk_172 (dk_at dksX6_meet_4 4 rfl rfl)
abbrev cX6_wouldMeet : ByteArray := prog_19_method_54_code
def yX6_wouldMeet : MethodName := ⟨RX6, "wouldMeet", "(II)Z"⟩
def dkwX6_wouldMeet_1 : List UInt8 := [29, 28, 182, 1, 27, 153, 0, 7, 4, 167, 0, 4, 3, 172]
abbrev dktX6_wouldMeet_1 : List UInt8 := dkwX6_wouldMeet_1 ++ []
def dkwX6_wouldMeet_0 : List UInt8 := [42, 27, 28, 182, 1, 15, 62, 29, 2, 159, 0, 27, 42, 27, 29, 28, 182, 1, 24, 153, 0, 17, 42, 27]
abbrev dktX6_wouldMeet_0 : List UInt8 := dkwX6_wouldMeet_0 ++ dktX6_wouldMeet_1
theorem dksX6_wouldMeet_0 : cX6_wouldMeet.data.toList.drop 0 = dktX6_wouldMeet_0 := by decide +kernel
theorem dksX6_wouldMeet_1 : cX6_wouldMeet.data.toList.drop 24 = dktX6_wouldMeet_1 := dk_seg dksX6_wouldMeet_0 24 rfl rfl
theorem dX6_wouldMeet_0 : decode cX6_wouldMeet 0 = .ok (.aload_n 0, 1) := dk_42 (dk_at dksX6_wouldMeet_0 0 rfl rfl)
theorem dX6_wouldMeet_1 : decode cX6_wouldMeet 1 = .ok (.iload_n 1, 1) := dk_27 (dk_at dksX6_wouldMeet_0 1 rfl rfl)
theorem dX6_wouldMeet_2 : decode cX6_wouldMeet 2 = .ok (.iload_n 2, 1) := dk_28 (dk_at dksX6_wouldMeet_0 2 rfl rfl)
theorem dX6_wouldMeet_3 : decode cX6_wouldMeet 3 = .ok (.invokevirtual 271, 3) := dk_182 1 15 (dk_at dksX6_wouldMeet_0 3 rfl rfl)
theorem dX6_wouldMeet_6 : decode cX6_wouldMeet 6 = .ok (.istore_n 3, 1) := dk_62 (dk_at dksX6_wouldMeet_0 6 rfl rfl)
theorem dX6_wouldMeet_7 : decode cX6_wouldMeet 7 = .ok (.iload_n 3, 1) := dk_29 (dk_at dksX6_wouldMeet_0 7 rfl rfl)
theorem dX6_wouldMeet_8 : decode cX6_wouldMeet 8 = .ok (.iconst (-1), 1) := dk_2 (dk_at dksX6_wouldMeet_0 8 rfl rfl)
theorem dX6_wouldMeet_9 : decode cX6_wouldMeet 9 = .ok (.if_icmp .eq 27, 3) := dk_159 0 27 (dk_at dksX6_wouldMeet_0 9 rfl rfl)
theorem dX6_wouldMeet_12 : decode cX6_wouldMeet 12 = .ok (.aload_n 0, 1) := dk_42 (dk_at dksX6_wouldMeet_0 12 rfl rfl)
theorem dX6_wouldMeet_13 : decode cX6_wouldMeet 13 = .ok (.iload_n 1, 1) := dk_27 (dk_at dksX6_wouldMeet_0 13 rfl rfl)
theorem dX6_wouldMeet_14 : decode cX6_wouldMeet 14 = .ok (.iload_n 3, 1) := dk_29 (dk_at dksX6_wouldMeet_0 14 rfl rfl)
theorem dX6_wouldMeet_15 : decode cX6_wouldMeet 15 = .ok (.iload_n 2, 1) := dk_28 (dk_at dksX6_wouldMeet_0 15 rfl rfl)
theorem dX6_wouldMeet_16 : decode cX6_wouldMeet 16 = .ok (.invokevirtual 280, 3) := dk_182 1 24 (dk_at dksX6_wouldMeet_0 16 rfl rfl)
theorem dX6_wouldMeet_19 : decode cX6_wouldMeet 19 = .ok (.ifCond .eq 17, 3) := dk_153 0 17 (dk_at dksX6_wouldMeet_0 19 rfl rfl)
theorem dX6_wouldMeet_22 : decode cX6_wouldMeet 22 = .ok (.aload_n 0, 1) := dk_42 (dk_at dksX6_wouldMeet_0 22 rfl rfl)
theorem dX6_wouldMeet_23 : decode cX6_wouldMeet 23 = .ok (.iload_n 1, 1) := dk_27 (dk_at dksX6_wouldMeet_0 23 rfl rfl)
theorem dX6_wouldMeet_24 : decode cX6_wouldMeet 24 = .ok (.iload_n 3, 1) := dk_29 (dk_at dksX6_wouldMeet_1 0 rfl rfl)
theorem dX6_wouldMeet_25 : decode cX6_wouldMeet 25 = .ok (.iload_n 2, 1) := dk_28 (dk_at dksX6_wouldMeet_1 1 rfl rfl)
theorem dX6_wouldMeet_26 : decode cX6_wouldMeet 26 = .ok (.invokevirtual 283, 3) := dk_182 1 27 (dk_at dksX6_wouldMeet_1 2 rfl rfl)
theorem dX6_wouldMeet_29 : decode cX6_wouldMeet 29 = .ok (.ifCond .eq 7, 3) := dk_153 0 7 (dk_at dksX6_wouldMeet_1 5 rfl rfl)
theorem dX6_wouldMeet_32 : decode cX6_wouldMeet 32 = .ok (.iconst 1, 1) := dk_4 (dk_at dksX6_wouldMeet_1 8 rfl rfl)
theorem dX6_wouldMeet_33 : decode cX6_wouldMeet 33 = .ok (.goto 4, 3) := dk_167 0 4 (dk_at dksX6_wouldMeet_1 9 rfl rfl)
theorem dX6_wouldMeet_36 : decode cX6_wouldMeet 36 = .ok (.iconst 0, 1) := dk_3 (dk_at dksX6_wouldMeet_1 12 rfl rfl)
theorem dX6_wouldMeet_37 : decode cX6_wouldMeet 37 = .ok (.ireturn, 1) := dk_172 (dk_at dksX6_wouldMeet_1 13 rfl rfl)
abbrev cX6_logs : ByteArray := prog_19_method_56_code
def yX6_logs : MethodName := ⟨RX6, "logs", "(IIIII)V"⟩
def dkwX6_logs_5 : List UInt8 := [46, 4, 96, 184, 0, 124, 79, 177]
abbrev dktX6_logs_5 : List UInt8 := dkwX6_logs_5 ++ []
def dkwX6_logs_4 : List UInt8 := [42, 180, 0, 7, 17, 1, 8, 21, 5, 79, 42, 180, 0, 7, 16, 9, 16, 60, 42, 180, 0, 7, 16, 9]
abbrev dktX6_logs_4 : List UInt8 := dkwX6_logs_4 ++ dktX6_logs_5
def dkwX6_logs_3 : List UInt8 := [17, 1, 5, 28, 79, 42, 180, 0, 7, 17, 1, 6, 29, 79, 42, 180, 0, 7, 17, 1, 7, 21, 4, 79]
abbrev dktX6_logs_3 : List UInt8 := dkwX6_logs_3 ++ dktX6_logs_4
def dkwX6_logs_2 : List UInt8 := [17, 1, 3, 42, 180, 0, 7, 16, 6, 46, 79, 42, 180, 0, 7, 17, 1, 4, 27, 79, 42, 180, 0, 7]
abbrev dktX6_logs_2 : List UInt8 := dkwX6_logs_2 ++ dktX6_logs_3
def dkwX6_logs_1 : List UInt8 := [180, 0, 7, 17, 1, 3, 21, 6, 96, 16, 6, 100, 46, 79, 132, 6, 255, 167, 255, 221, 42, 180, 0, 7]
abbrev dktX6_logs_1 : List UInt8 := dkwX6_logs_1 ++ dktX6_logs_2
def dkwX6_logs_0 : List UInt8 := [17, 1, 103, 54, 6, 21, 6, 16, 6, 161, 0, 34, 42, 180, 0, 7, 17, 1, 3, 21, 6, 96, 42]
abbrev dktX6_logs_0 : List UInt8 := dkwX6_logs_0 ++ dktX6_logs_1
theorem dksX6_logs_0 : cX6_logs.data.toList.drop 0 = dktX6_logs_0 := by decide +kernel
theorem dksX6_logs_1 : cX6_logs.data.toList.drop 23 = dktX6_logs_1 := dk_seg dksX6_logs_0 23 rfl rfl
theorem dksX6_logs_2 : cX6_logs.data.toList.drop 47 = dktX6_logs_2 := dk_seg dksX6_logs_1 24 rfl rfl
theorem dksX6_logs_3 : cX6_logs.data.toList.drop 71 = dktX6_logs_3 := dk_seg dksX6_logs_2 24 rfl rfl
theorem dksX6_logs_4 : cX6_logs.data.toList.drop 95 = dktX6_logs_4 := dk_seg dksX6_logs_3 24 rfl rfl
theorem dksX6_logs_5 : cX6_logs.data.toList.drop 119 = dktX6_logs_5 := dk_seg dksX6_logs_4 24 rfl rfl
theorem dX6_logs_0 : decode cX6_logs 0 = .ok (.sipush 359, 3) := dk_17 1 103 (dk_at dksX6_logs_0 0 rfl rfl)
theorem dX6_logs_3 : decode cX6_logs 3 = .ok (.istore 6, 2) := dk_54 6 (dk_at dksX6_logs_0 3 rfl rfl)
theorem dX6_logs_5 : decode cX6_logs 5 = .ok (.iload 6, 2) := dk_21 6 (dk_at dksX6_logs_0 5 rfl rfl)
theorem dX6_logs_7 : decode cX6_logs 7 = .ok (.bipush 6, 2) := dk_16 6 (dk_at dksX6_logs_0 7 rfl rfl)
theorem dX6_logs_9 : decode cX6_logs 9 = .ok (.if_icmp .lt 34, 3) := dk_161 0 34 (dk_at dksX6_logs_0 9 rfl rfl)
theorem dX6_logs_12 : decode cX6_logs 12 = .ok (.aload_n 0, 1) := dk_42 (dk_at dksX6_logs_0 12 rfl rfl)
theorem dX6_logs_13 : decode cX6_logs 13 = .ok (.getfield 7, 3) := dk_180 0 7 (dk_at dksX6_logs_0 13 rfl rfl)
theorem dX6_logs_16 : decode cX6_logs 16 = .ok (.sipush 259, 3) := dk_17 1 3 (dk_at dksX6_logs_0 16 rfl rfl)
theorem dX6_logs_19 : decode cX6_logs 19 = .ok (.iload 6, 2) := dk_21 6 (dk_at dksX6_logs_0 19 rfl rfl)
theorem dX6_logs_21 : decode cX6_logs 21 = .ok (.iadd, 1) := dk_96 (dk_at dksX6_logs_0 21 rfl rfl)
theorem dX6_logs_22 : decode cX6_logs 22 = .ok (.aload_n 0, 1) := dk_42 (dk_at dksX6_logs_0 22 rfl rfl)
theorem dX6_logs_23 : decode cX6_logs 23 = .ok (.getfield 7, 3) := dk_180 0 7 (dk_at dksX6_logs_1 0 rfl rfl)
theorem dX6_logs_26 : decode cX6_logs 26 = .ok (.sipush 259, 3) := dk_17 1 3 (dk_at dksX6_logs_1 3 rfl rfl)
theorem dX6_logs_29 : decode cX6_logs 29 = .ok (.iload 6, 2) := dk_21 6 (dk_at dksX6_logs_1 6 rfl rfl)
theorem dX6_logs_31 : decode cX6_logs 31 = .ok (.iadd, 1) := dk_96 (dk_at dksX6_logs_1 8 rfl rfl)
theorem dX6_logs_32 : decode cX6_logs 32 = .ok (.bipush 6, 2) := dk_16 6 (dk_at dksX6_logs_1 9 rfl rfl)
theorem dX6_logs_34 : decode cX6_logs 34 = .ok (.isub, 1) := dk_100 (dk_at dksX6_logs_1 11 rfl rfl)
theorem dX6_logs_35 : decode cX6_logs 35 = .ok (.iaload, 1) := dk_46 (dk_at dksX6_logs_1 12 rfl rfl)
theorem dX6_logs_36 : decode cX6_logs 36 = .ok (.iastore, 1) := dk_79 (dk_at dksX6_logs_1 13 rfl rfl)
theorem dX6_logs_37 : decode cX6_logs 37 = .ok (.iinc 6 (-1), 3) := dk_132 6 255 (dk_at dksX6_logs_1 14 rfl rfl)
theorem dX6_logs_40 : decode cX6_logs 40 = .ok (.goto (-35), 3) := dk_167 255 221 (dk_at dksX6_logs_1 17 rfl rfl)
theorem dX6_logs_43 : decode cX6_logs 43 = .ok (.aload_n 0, 1) := dk_42 (dk_at dksX6_logs_1 20 rfl rfl)
theorem dX6_logs_44 : decode cX6_logs 44 = .ok (.getfield 7, 3) := dk_180 0 7 (dk_at dksX6_logs_1 21 rfl rfl)
theorem dX6_logs_47 : decode cX6_logs 47 = .ok (.sipush 259, 3) := dk_17 1 3 (dk_at dksX6_logs_2 0 rfl rfl)
theorem dX6_logs_50 : decode cX6_logs 50 = .ok (.aload_n 0, 1) := dk_42 (dk_at dksX6_logs_2 3 rfl rfl)
theorem dX6_logs_51 : decode cX6_logs 51 = .ok (.getfield 7, 3) := dk_180 0 7 (dk_at dksX6_logs_2 4 rfl rfl)
theorem dX6_logs_54 : decode cX6_logs 54 = .ok (.bipush 6, 2) := dk_16 6 (dk_at dksX6_logs_2 7 rfl rfl)
theorem dX6_logs_56 : decode cX6_logs 56 = .ok (.iaload, 1) := dk_46 (dk_at dksX6_logs_2 9 rfl rfl)
theorem dX6_logs_57 : decode cX6_logs 57 = .ok (.iastore, 1) := dk_79 (dk_at dksX6_logs_2 10 rfl rfl)
theorem dX6_logs_58 : decode cX6_logs 58 = .ok (.aload_n 0, 1) := dk_42 (dk_at dksX6_logs_2 11 rfl rfl)
theorem dX6_logs_59 : decode cX6_logs 59 = .ok (.getfield 7, 3) := dk_180 0 7 (dk_at dksX6_logs_2 12 rfl rfl)
theorem dX6_logs_62 : decode cX6_logs 62 = .ok (.sipush 260, 3) := dk_17 1 4 (dk_at dksX6_logs_2 15 rfl rfl)
theorem dX6_logs_65 : decode cX6_logs 65 = .ok (.iload_n 1, 1) := dk_27 (dk_at dksX6_logs_2 18 rfl rfl)
theorem dX6_logs_66 : decode cX6_logs 66 = .ok (.iastore, 1) := dk_79 (dk_at dksX6_logs_2 19 rfl rfl)
theorem dX6_logs_67 : decode cX6_logs 67 = .ok (.aload_n 0, 1) := dk_42 (dk_at dksX6_logs_2 20 rfl rfl)
theorem dX6_logs_68 : decode cX6_logs 68 = .ok (.getfield 7, 3) := dk_180 0 7 (dk_at dksX6_logs_2 21 rfl rfl)
theorem dX6_logs_71 : decode cX6_logs 71 = .ok (.sipush 261, 3) := dk_17 1 5 (dk_at dksX6_logs_3 0 rfl rfl)
theorem dX6_logs_74 : decode cX6_logs 74 = .ok (.iload_n 2, 1) := dk_28 (dk_at dksX6_logs_3 3 rfl rfl)
theorem dX6_logs_75 : decode cX6_logs 75 = .ok (.iastore, 1) := dk_79 (dk_at dksX6_logs_3 4 rfl rfl)
theorem dX6_logs_76 : decode cX6_logs 76 = .ok (.aload_n 0, 1) := dk_42 (dk_at dksX6_logs_3 5 rfl rfl)
theorem dX6_logs_77 : decode cX6_logs 77 = .ok (.getfield 7, 3) := dk_180 0 7 (dk_at dksX6_logs_3 6 rfl rfl)
theorem dX6_logs_80 : decode cX6_logs 80 = .ok (.sipush 262, 3) := dk_17 1 6 (dk_at dksX6_logs_3 9 rfl rfl)
theorem dX6_logs_83 : decode cX6_logs 83 = .ok (.iload_n 3, 1) := dk_29 (dk_at dksX6_logs_3 12 rfl rfl)
theorem dX6_logs_84 : decode cX6_logs 84 = .ok (.iastore, 1) := dk_79 (dk_at dksX6_logs_3 13 rfl rfl)
theorem dX6_logs_85 : decode cX6_logs 85 = .ok (.aload_n 0, 1) := dk_42 (dk_at dksX6_logs_3 14 rfl rfl)
theorem dX6_logs_86 : decode cX6_logs 86 = .ok (.getfield 7, 3) := dk_180 0 7 (dk_at dksX6_logs_3 15 rfl rfl)
theorem dX6_logs_89 : decode cX6_logs 89 = .ok (.sipush 263, 3) := dk_17 1 7 (dk_at dksX6_logs_3 18 rfl rfl)
theorem dX6_logs_92 : decode cX6_logs 92 = .ok (.iload 4, 2) := dk_21 4 (dk_at dksX6_logs_3 21 rfl rfl)
theorem dX6_logs_94 : decode cX6_logs 94 = .ok (.iastore, 1) := dk_79 (dk_at dksX6_logs_3 23 rfl rfl)
theorem dX6_logs_95 : decode cX6_logs 95 = .ok (.aload_n 0, 1) := dk_42 (dk_at dksX6_logs_4 0 rfl rfl)
theorem dX6_logs_96 : decode cX6_logs 96 = .ok (.getfield 7, 3) := dk_180 0 7 (dk_at dksX6_logs_4 1 rfl rfl)
theorem dX6_logs_99 : decode cX6_logs 99 = .ok (.sipush 264, 3) := dk_17 1 8 (dk_at dksX6_logs_4 4 rfl rfl)
theorem dX6_logs_102 : decode cX6_logs 102 = .ok (.iload 5, 2) := dk_21 5 (dk_at dksX6_logs_4 7 rfl rfl)
theorem dX6_logs_104 : decode cX6_logs 104 = .ok (.iastore, 1) := dk_79 (dk_at dksX6_logs_4 9 rfl rfl)
theorem dX6_logs_105 : decode cX6_logs 105 = .ok (.aload_n 0, 1) := dk_42 (dk_at dksX6_logs_4 10 rfl rfl)
theorem dX6_logs_106 : decode cX6_logs 106 = .ok (.getfield 7, 3) := dk_180 0 7 (dk_at dksX6_logs_4 11 rfl rfl)
theorem dX6_logs_109 : decode cX6_logs 109 = .ok (.bipush 9, 2) := dk_16 9 (dk_at dksX6_logs_4 14 rfl rfl)
theorem dX6_logs_111 : decode cX6_logs 111 = .ok (.bipush 60, 2) := dk_16 60 (dk_at dksX6_logs_4 16 rfl rfl)
theorem dX6_logs_113 : decode cX6_logs 113 = .ok (.aload_n 0, 1) := dk_42 (dk_at dksX6_logs_4 18 rfl rfl)
theorem dX6_logs_114 : decode cX6_logs 114 = .ok (.getfield 7, 3) := dk_180 0 7 (dk_at dksX6_logs_4 19 rfl rfl)
theorem dX6_logs_117 : decode cX6_logs 117 = .ok (.bipush 9, 2) := dk_16 9 (dk_at dksX6_logs_4 22 rfl rfl)
theorem dX6_logs_119 : decode cX6_logs 119 = .ok (.iaload, 1) := dk_46 (dk_at dksX6_logs_5 0 rfl rfl)
theorem dX6_logs_120 : decode cX6_logs 120 = .ok (.iconst 1, 1) := dk_4 (dk_at dksX6_logs_5 1 rfl rfl)
theorem dX6_logs_121 : decode cX6_logs 121 = .ok (.iadd, 1) := dk_96 (dk_at dksX6_logs_5 2 rfl rfl)
theorem dX6_logs_122 : decode cX6_logs 122 = .ok (.invokestatic 124, 3) := dk_184 0 124 (dk_at dksX6_logs_5 3 rfl rfl)
theorem dX6_logs_125 : decode cX6_logs 125 = .ok (.iastore, 1) := dk_79 (dk_at dksX6_logs_5 6 rfl rfl)
theorem dX6_logs_126 : decode cX6_logs 126 = .ok (.return_, 1) := dk_177 (dk_at dksX6_logs_5 7 rfl rfl)
abbrev cX6_bits : ByteArray := prog_19_method_7_code
def yX6_bits : MethodName := ⟨RX6, "bits", "(I)I"⟩
def dkwX6_bits_1 : List UInt8 := [27, 172]
abbrev dktX6_bits_1 : List UInt8 := dkwX6_bits_1 ++ []
def dkwX6_bits_0 : List UInt8 := [3, 60, 3, 61, 28, 16, 31, 162, 0, 17, 27, 26, 28, 122, 4, 126, 96, 60, 132, 2, 1, 167, 255, 239]
abbrev dktX6_bits_0 : List UInt8 := dkwX6_bits_0 ++ dktX6_bits_1
theorem dksX6_bits_0 : cX6_bits.data.toList.drop 0 = dktX6_bits_0 := by decide +kernel
theorem dksX6_bits_1 : cX6_bits.data.toList.drop 24 = dktX6_bits_1 := dk_seg dksX6_bits_0 24 rfl rfl
theorem dX6_bits_0 : decode cX6_bits 0 = .ok (.iconst 0, 1) := dk_3 (dk_at dksX6_bits_0 0 rfl rfl)
theorem dX6_bits_1 : decode cX6_bits 1 = .ok (.istore_n 1, 1) := dk_60 (dk_at dksX6_bits_0 1 rfl rfl)
theorem dX6_bits_2 : decode cX6_bits 2 = .ok (.iconst 0, 1) := dk_3 (dk_at dksX6_bits_0 2 rfl rfl)
theorem dX6_bits_3 : decode cX6_bits 3 = .ok (.istore_n 2, 1) := dk_61 (dk_at dksX6_bits_0 3 rfl rfl)
theorem dX6_bits_4 : decode cX6_bits 4 = .ok (.iload_n 2, 1) := dk_28 (dk_at dksX6_bits_0 4 rfl rfl)
theorem dX6_bits_5 : decode cX6_bits 5 = .ok (.bipush 31, 2) := dk_16 31 (dk_at dksX6_bits_0 5 rfl rfl)
theorem dX6_bits_7 : decode cX6_bits 7 = .ok (.if_icmp .ge 17, 3) := dk_162 0 17 (dk_at dksX6_bits_0 7 rfl rfl)
theorem dX6_bits_10 : decode cX6_bits 10 = .ok (.iload_n 1, 1) := dk_27 (dk_at dksX6_bits_0 10 rfl rfl)
theorem dX6_bits_11 : decode cX6_bits 11 = .ok (.iload_n 0, 1) := dk_26 (dk_at dksX6_bits_0 11 rfl rfl)
theorem dX6_bits_12 : decode cX6_bits 12 = .ok (.iload_n 2, 1) := dk_28 (dk_at dksX6_bits_0 12 rfl rfl)
theorem dX6_bits_13 : decode cX6_bits 13 = .ok (.ishr, 1) := dk_122 (dk_at dksX6_bits_0 13 rfl rfl)
theorem dX6_bits_14 : decode cX6_bits 14 = .ok (.iconst 1, 1) := dk_4 (dk_at dksX6_bits_0 14 rfl rfl)
theorem dX6_bits_15 : decode cX6_bits 15 = .ok (.iand, 1) := dk_126 (dk_at dksX6_bits_0 15 rfl rfl)
theorem dX6_bits_16 : decode cX6_bits 16 = .ok (.iadd, 1) := dk_96 (dk_at dksX6_bits_0 16 rfl rfl)
theorem dX6_bits_17 : decode cX6_bits 17 = .ok (.istore_n 1, 1) := dk_60 (dk_at dksX6_bits_0 17 rfl rfl)
theorem dX6_bits_18 : decode cX6_bits 18 = .ok (.iinc 2 1, 3) := dk_132 2 1 (dk_at dksX6_bits_0 18 rfl rfl)
theorem dX6_bits_21 : decode cX6_bits 21 = .ok (.goto (-17), 3) := dk_167 255 239 (dk_at dksX6_bits_0 21 rfl rfl)
theorem dX6_bits_24 : decode cX6_bits 24 = .ok (.iload_n 1, 1) := dk_27 (dk_at dksX6_bits_1 0 rfl rfl)
theorem dX6_bits_25 : decode cX6_bits 25 = .ok (.ireturn, 1) := dk_172 (dk_at dksX6_bits_1 1 rfl rfl)
abbrev cX6_closes : ByteArray := prog_19_method_58_code
def yX6_closes : MethodName := ⟨RX6, "closes", "(IZ)V"⟩
def dkwX6_closes_4 : List UInt8 := [4, 27, 120, 128, 181, 1, 38, 177]
abbrev dktX6_closes_4 : List UInt8 := dkwX6_closes_4 ++ []
def dkwX6_closes_3 : List UInt8 := [167, 255, 231, 42, 27, 6, 3, 182, 0, 140, 42, 27, 2, 2, 4, 3, 182, 1, 34, 42, 89, 180, 1, 38]
abbrev dktX6_closes_3 : List UInt8 := dkwX6_closes_3 ++ dktX6_closes_4
def dkwX6_closes_2 : List UInt8 := [162, 0, 25, 42, 180, 0, 7, 17, 0, 195, 16, 8, 27, 104, 96, 29, 96, 2, 79, 132, 3, 1]
abbrev dktX6_closes_2 : List UInt8 := dkwX6_closes_2 ++ dktX6_closes_3
def dkwX6_closes_1 : List UInt8 := [182, 0, 140, 42, 27, 6, 182, 0, 68, 42, 27, 3, 182, 0, 68, 163, 0, 4, 177, 3, 62, 29, 16, 8]
abbrev dktX6_closes_1 : List UInt8 := dkwX6_closes_1 ++ dktX6_closes_2
def dkwX6_closes_0 : List UInt8 := [42, 27, 6, 28, 153, 0, 7, 3, 167, 0, 16, 16, 99, 42, 27, 6, 182, 0, 68, 4, 96, 184, 0, 124]
abbrev dktX6_closes_0 : List UInt8 := dkwX6_closes_0 ++ dktX6_closes_1
theorem dksX6_closes_0 : cX6_closes.data.toList.drop 0 = dktX6_closes_0 := by decide +kernel
theorem dksX6_closes_1 : cX6_closes.data.toList.drop 24 = dktX6_closes_1 := dk_seg dksX6_closes_0 24 rfl rfl
theorem dksX6_closes_2 : cX6_closes.data.toList.drop 48 = dktX6_closes_2 := dk_seg dksX6_closes_1 24 rfl rfl
theorem dksX6_closes_3 : cX6_closes.data.toList.drop 70 = dktX6_closes_3 := dk_seg dksX6_closes_2 22 rfl rfl
theorem dksX6_closes_4 : cX6_closes.data.toList.drop 94 = dktX6_closes_4 := dk_seg dksX6_closes_3 24 rfl rfl
theorem dX6_closes_0 : decode cX6_closes 0 = .ok (.aload_n 0, 1) := dk_42 (dk_at dksX6_closes_0 0 rfl rfl)
theorem dX6_closes_1 : decode cX6_closes 1 = .ok (.iload_n 1, 1) := dk_27 (dk_at dksX6_closes_0 1 rfl rfl)
theorem dX6_closes_2 : decode cX6_closes 2 = .ok (.iconst 3, 1) := dk_6 (dk_at dksX6_closes_0 2 rfl rfl)
theorem dX6_closes_3 : decode cX6_closes 3 = .ok (.iload_n 2, 1) := dk_28 (dk_at dksX6_closes_0 3 rfl rfl)
theorem dX6_closes_4 : decode cX6_closes 4 = .ok (.ifCond .eq 7, 3) := dk_153 0 7 (dk_at dksX6_closes_0 4 rfl rfl)
theorem dX6_closes_7 : decode cX6_closes 7 = .ok (.iconst 0, 1) := dk_3 (dk_at dksX6_closes_0 7 rfl rfl)
theorem dX6_closes_8 : decode cX6_closes 8 = .ok (.goto 16, 3) := dk_167 0 16 (dk_at dksX6_closes_0 8 rfl rfl)
theorem dX6_closes_11 : decode cX6_closes 11 = .ok (.bipush 99, 2) := dk_16 99 (dk_at dksX6_closes_0 11 rfl rfl)
theorem dX6_closes_13 : decode cX6_closes 13 = .ok (.aload_n 0, 1) := dk_42 (dk_at dksX6_closes_0 13 rfl rfl)
theorem dX6_closes_14 : decode cX6_closes 14 = .ok (.iload_n 1, 1) := dk_27 (dk_at dksX6_closes_0 14 rfl rfl)
theorem dX6_closes_15 : decode cX6_closes 15 = .ok (.iconst 3, 1) := dk_6 (dk_at dksX6_closes_0 15 rfl rfl)
theorem dX6_closes_16 : decode cX6_closes 16 = .ok (.invokevirtual 68, 3) := dk_182 0 68 (dk_at dksX6_closes_0 16 rfl rfl)
theorem dX6_closes_19 : decode cX6_closes 19 = .ok (.iconst 1, 1) := dk_4 (dk_at dksX6_closes_0 19 rfl rfl)
theorem dX6_closes_20 : decode cX6_closes 20 = .ok (.iadd, 1) := dk_96 (dk_at dksX6_closes_0 20 rfl rfl)
theorem dX6_closes_21 : decode cX6_closes 21 = .ok (.invokestatic 124, 3) := dk_184 0 124 (dk_at dksX6_closes_0 21 rfl rfl)
theorem dX6_closes_24 : decode cX6_closes 24 = .ok (.invokevirtual 140, 3) := dk_182 0 140 (dk_at dksX6_closes_1 0 rfl rfl)
theorem dX6_closes_27 : decode cX6_closes 27 = .ok (.aload_n 0, 1) := dk_42 (dk_at dksX6_closes_1 3 rfl rfl)
theorem dX6_closes_28 : decode cX6_closes 28 = .ok (.iload_n 1, 1) := dk_27 (dk_at dksX6_closes_1 4 rfl rfl)
theorem dX6_closes_29 : decode cX6_closes 29 = .ok (.iconst 3, 1) := dk_6 (dk_at dksX6_closes_1 5 rfl rfl)
theorem dX6_closes_30 : decode cX6_closes 30 = .ok (.invokevirtual 68, 3) := dk_182 0 68 (dk_at dksX6_closes_1 6 rfl rfl)
theorem dX6_closes_33 : decode cX6_closes 33 = .ok (.aload_n 0, 1) := dk_42 (dk_at dksX6_closes_1 9 rfl rfl)
theorem dX6_closes_34 : decode cX6_closes 34 = .ok (.iload_n 1, 1) := dk_27 (dk_at dksX6_closes_1 10 rfl rfl)
theorem dX6_closes_35 : decode cX6_closes 35 = .ok (.iconst 0, 1) := dk_3 (dk_at dksX6_closes_1 11 rfl rfl)
theorem dX6_closes_36 : decode cX6_closes 36 = .ok (.invokevirtual 68, 3) := dk_182 0 68 (dk_at dksX6_closes_1 12 rfl rfl)
theorem dX6_closes_39 : decode cX6_closes 39 = .ok (.if_icmp .gt 4, 3) := dk_163 0 4 (dk_at dksX6_closes_1 15 rfl rfl)
theorem dX6_closes_42 : decode cX6_closes 42 = .ok (.return_, 1) := dk_177 (dk_at dksX6_closes_1 18 rfl rfl)
theorem dX6_closes_43 : decode cX6_closes 43 = .ok (.iconst 0, 1) := dk_3 (dk_at dksX6_closes_1 19 rfl rfl)
theorem dX6_closes_44 : decode cX6_closes 44 = .ok (.istore_n 3, 1) := dk_62 (dk_at dksX6_closes_1 20 rfl rfl)
theorem dX6_closes_45 : decode cX6_closes 45 = .ok (.iload_n 3, 1) := dk_29 (dk_at dksX6_closes_1 21 rfl rfl)
theorem dX6_closes_46 : decode cX6_closes 46 = .ok (.bipush 8, 2) := dk_16 8 (dk_at dksX6_closes_1 22 rfl rfl)
theorem dX6_closes_48 : decode cX6_closes 48 = .ok (.if_icmp .ge 25, 3) := dk_162 0 25 (dk_at dksX6_closes_2 0 rfl rfl)
theorem dX6_closes_51 : decode cX6_closes 51 = .ok (.aload_n 0, 1) := dk_42 (dk_at dksX6_closes_2 3 rfl rfl)
theorem dX6_closes_52 : decode cX6_closes 52 = .ok (.getfield 7, 3) := dk_180 0 7 (dk_at dksX6_closes_2 4 rfl rfl)
theorem dX6_closes_55 : decode cX6_closes 55 = .ok (.sipush 195, 3) := dk_17 0 195 (dk_at dksX6_closes_2 7 rfl rfl)
theorem dX6_closes_58 : decode cX6_closes 58 = .ok (.bipush 8, 2) := dk_16 8 (dk_at dksX6_closes_2 10 rfl rfl)
theorem dX6_closes_60 : decode cX6_closes 60 = .ok (.iload_n 1, 1) := dk_27 (dk_at dksX6_closes_2 12 rfl rfl)
theorem dX6_closes_61 : decode cX6_closes 61 = .ok (.imul, 1) := dk_104 (dk_at dksX6_closes_2 13 rfl rfl)
theorem dX6_closes_62 : decode cX6_closes 62 = .ok (.iadd, 1) := dk_96 (dk_at dksX6_closes_2 14 rfl rfl)
theorem dX6_closes_63 : decode cX6_closes 63 = .ok (.iload_n 3, 1) := dk_29 (dk_at dksX6_closes_2 15 rfl rfl)
theorem dX6_closes_64 : decode cX6_closes 64 = .ok (.iadd, 1) := dk_96 (dk_at dksX6_closes_2 16 rfl rfl)
theorem dX6_closes_65 : decode cX6_closes 65 = .ok (.iconst (-1), 1) := dk_2 (dk_at dksX6_closes_2 17 rfl rfl)
theorem dX6_closes_66 : decode cX6_closes 66 = .ok (.iastore, 1) := dk_79 (dk_at dksX6_closes_2 18 rfl rfl)
theorem dX6_closes_67 : decode cX6_closes 67 = .ok (.iinc 3 1, 3) := dk_132 3 1 (dk_at dksX6_closes_2 19 rfl rfl)
theorem dX6_closes_70 : decode cX6_closes 70 = .ok (.goto (-25), 3) := dk_167 255 231 (dk_at dksX6_closes_3 0 rfl rfl)
theorem dX6_closes_73 : decode cX6_closes 73 = .ok (.aload_n 0, 1) := dk_42 (dk_at dksX6_closes_3 3 rfl rfl)
theorem dX6_closes_74 : decode cX6_closes 74 = .ok (.iload_n 1, 1) := dk_27 (dk_at dksX6_closes_3 4 rfl rfl)
theorem dX6_closes_75 : decode cX6_closes 75 = .ok (.iconst 3, 1) := dk_6 (dk_at dksX6_closes_3 5 rfl rfl)
theorem dX6_closes_76 : decode cX6_closes 76 = .ok (.iconst 0, 1) := dk_3 (dk_at dksX6_closes_3 6 rfl rfl)
theorem dX6_closes_77 : decode cX6_closes 77 = .ok (.invokevirtual 140, 3) := dk_182 0 140 (dk_at dksX6_closes_3 7 rfl rfl)
theorem dX6_closes_80 : decode cX6_closes 80 = .ok (.aload_n 0, 1) := dk_42 (dk_at dksX6_closes_3 10 rfl rfl)
theorem dX6_closes_81 : decode cX6_closes 81 = .ok (.iload_n 1, 1) := dk_27 (dk_at dksX6_closes_3 11 rfl rfl)
theorem dX6_closes_82 : decode cX6_closes 82 = .ok (.iconst (-1), 1) := dk_2 (dk_at dksX6_closes_3 12 rfl rfl)
theorem dX6_closes_83 : decode cX6_closes 83 = .ok (.iconst (-1), 1) := dk_2 (dk_at dksX6_closes_3 13 rfl rfl)
theorem dX6_closes_84 : decode cX6_closes 84 = .ok (.iconst 1, 1) := dk_4 (dk_at dksX6_closes_3 14 rfl rfl)
theorem dX6_closes_85 : decode cX6_closes 85 = .ok (.iconst 0, 1) := dk_3 (dk_at dksX6_closes_3 15 rfl rfl)
theorem dX6_closes_86 : decode cX6_closes 86 = .ok (.invokevirtual 290, 3) := dk_182 1 34 (dk_at dksX6_closes_3 16 rfl rfl)
theorem dX6_closes_89 : decode cX6_closes 89 = .ok (.aload_n 0, 1) := dk_42 (dk_at dksX6_closes_3 19 rfl rfl)
theorem dX6_closes_90 : decode cX6_closes 90 = .ok (.dup, 1) := dk_89 (dk_at dksX6_closes_3 20 rfl rfl)
theorem dX6_closes_91 : decode cX6_closes 91 = .ok (.getfield 294, 3) := dk_180 1 38 (dk_at dksX6_closes_3 21 rfl rfl)
theorem dX6_closes_94 : decode cX6_closes 94 = .ok (.iconst 1, 1) := dk_4 (dk_at dksX6_closes_4 0 rfl rfl)
theorem dX6_closes_95 : decode cX6_closes 95 = .ok (.iload_n 1, 1) := dk_27 (dk_at dksX6_closes_4 1 rfl rfl)
theorem dX6_closes_96 : decode cX6_closes 96 = .ok (.ishl, 1) := dk_120 (dk_at dksX6_closes_4 2 rfl rfl)
theorem dX6_closes_97 : decode cX6_closes 97 = .ok (.ior, 1) := dk_128 (dk_at dksX6_closes_4 3 rfl rfl)
theorem dX6_closes_98 : decode cX6_closes 98 = .ok (.putfield 294, 3) := dk_181 1 38 (dk_at dksX6_closes_4 4 rfl rfl)
theorem dX6_closes_101 : decode cX6_closes 101 = .ok (.return_, 1) := dk_177 (dk_at dksX6_closes_4 7 rfl rfl)
abbrev cX6_meetings : ByteArray := prog_19_method_82_code
def yX6_meetings : MethodName := ⟨RX6, "meetings", "(Z)I"⟩
def dkwX6_meetings_3 : List UInt8 := [167, 255, 207, 132, 3, 1, 167, 255, 188, 28, 172]
abbrev dktX6_meetings_3 : List UInt8 := dkwX6_meetings_3 ++ []
def dkwX6_meetings_2 : List UInt8 := [42, 29, 42, 29, 21, 4, 182, 1, 15, 21, 4, 182, 1, 81, 167, 0, 4, 4, 96, 61, 132, 4, 1]
abbrev dktX6_meetings_2 : List UInt8 := dkwX6_meetings_2 ++ dktX6_meetings_3
def dkwX6_meetings_1 : List UInt8 := [16, 8, 162, 0, 48, 28, 42, 29, 21, 4, 182, 1, 31, 154, 0, 7, 3, 167, 0, 25, 27, 153, 0, 20]
abbrev dktX6_meetings_1 : List UInt8 := dkwX6_meetings_1 ++ dktX6_meetings_2
def dkwX6_meetings_0 : List UInt8 := [42, 3, 181, 0, 54, 3, 61, 3, 62, 29, 42, 180, 0, 7, 6, 46, 162, 0, 64, 3, 54, 4, 21, 4]
abbrev dktX6_meetings_0 : List UInt8 := dkwX6_meetings_0 ++ dktX6_meetings_1
theorem dksX6_meetings_0 : cX6_meetings.data.toList.drop 0 = dktX6_meetings_0 := by decide +kernel
theorem dksX6_meetings_1 : cX6_meetings.data.toList.drop 24 = dktX6_meetings_1 := dk_seg dksX6_meetings_0 24 rfl rfl
theorem dksX6_meetings_2 : cX6_meetings.data.toList.drop 48 = dktX6_meetings_2 := dk_seg dksX6_meetings_1 24 rfl rfl
theorem dksX6_meetings_3 : cX6_meetings.data.toList.drop 71 = dktX6_meetings_3 := dk_seg dksX6_meetings_2 23 rfl rfl
theorem dX6_meetings_0 : decode cX6_meetings 0 = .ok (.aload_n 0, 1) := dk_42 (dk_at dksX6_meetings_0 0 rfl rfl)
theorem dX6_meetings_1 : decode cX6_meetings 1 = .ok (.iconst 0, 1) := dk_3 (dk_at dksX6_meetings_0 1 rfl rfl)
theorem dX6_meetings_2 : decode cX6_meetings 2 = .ok (.putfield 54, 3) := dk_181 0 54 (dk_at dksX6_meetings_0 2 rfl rfl)
theorem dX6_meetings_5 : decode cX6_meetings 5 = .ok (.iconst 0, 1) := dk_3 (dk_at dksX6_meetings_0 5 rfl rfl)
theorem dX6_meetings_6 : decode cX6_meetings 6 = .ok (.istore_n 2, 1) := dk_61 (dk_at dksX6_meetings_0 6 rfl rfl)
theorem dX6_meetings_7 : decode cX6_meetings 7 = .ok (.iconst 0, 1) := dk_3 (dk_at dksX6_meetings_0 7 rfl rfl)
theorem dX6_meetings_8 : decode cX6_meetings 8 = .ok (.istore_n 3, 1) := dk_62 (dk_at dksX6_meetings_0 8 rfl rfl)
theorem dX6_meetings_9 : decode cX6_meetings 9 = .ok (.iload_n 3, 1) := dk_29 (dk_at dksX6_meetings_0 9 rfl rfl)
theorem dX6_meetings_10 : decode cX6_meetings 10 = .ok (.aload_n 0, 1) := dk_42 (dk_at dksX6_meetings_0 10 rfl rfl)
theorem dX6_meetings_11 : decode cX6_meetings 11 = .ok (.getfield 7, 3) := dk_180 0 7 (dk_at dksX6_meetings_0 11 rfl rfl)
theorem dX6_meetings_14 : decode cX6_meetings 14 = .ok (.iconst 3, 1) := dk_6 (dk_at dksX6_meetings_0 14 rfl rfl)
theorem dX6_meetings_15 : decode cX6_meetings 15 = .ok (.iaload, 1) := dk_46 (dk_at dksX6_meetings_0 15 rfl rfl)
theorem dX6_meetings_16 : decode cX6_meetings 16 = .ok (.if_icmp .ge 64, 3) := dk_162 0 64 (dk_at dksX6_meetings_0 16 rfl rfl)
theorem dX6_meetings_19 : decode cX6_meetings 19 = .ok (.iconst 0, 1) := dk_3 (dk_at dksX6_meetings_0 19 rfl rfl)
theorem dX6_meetings_20 : decode cX6_meetings 20 = .ok (.istore 4, 2) := dk_54 4 (dk_at dksX6_meetings_0 20 rfl rfl)
theorem dX6_meetings_22 : decode cX6_meetings 22 = .ok (.iload 4, 2) := dk_21 4 (dk_at dksX6_meetings_0 22 rfl rfl)
theorem dX6_meetings_24 : decode cX6_meetings 24 = .ok (.bipush 8, 2) := dk_16 8 (dk_at dksX6_meetings_1 0 rfl rfl)
theorem dX6_meetings_26 : decode cX6_meetings 26 = .ok (.if_icmp .ge 48, 3) := dk_162 0 48 (dk_at dksX6_meetings_1 2 rfl rfl)
theorem dX6_meetings_29 : decode cX6_meetings 29 = .ok (.iload_n 2, 1) := dk_28 (dk_at dksX6_meetings_1 5 rfl rfl)
theorem dX6_meetings_30 : decode cX6_meetings 30 = .ok (.aload_n 0, 1) := dk_42 (dk_at dksX6_meetings_1 6 rfl rfl)
theorem dX6_meetings_31 : decode cX6_meetings 31 = .ok (.iload_n 3, 1) := dk_29 (dk_at dksX6_meetings_1 7 rfl rfl)
theorem dX6_meetings_32 : decode cX6_meetings 32 = .ok (.iload 4, 2) := dk_21 4 (dk_at dksX6_meetings_1 8 rfl rfl)
theorem dX6_meetings_34 : decode cX6_meetings 34 = .ok (.invokevirtual 287, 3) := dk_182 1 31 (dk_at dksX6_meetings_1 10 rfl rfl)
theorem dX6_meetings_37 : decode cX6_meetings 37 = .ok (.ifCond .ne 7, 3) := dk_154 0 7 (dk_at dksX6_meetings_1 13 rfl rfl)
theorem dX6_meetings_40 : decode cX6_meetings 40 = .ok (.iconst 0, 1) := dk_3 (dk_at dksX6_meetings_1 16 rfl rfl)
theorem dX6_meetings_41 : decode cX6_meetings 41 = .ok (.goto 25, 3) := dk_167 0 25 (dk_at dksX6_meetings_1 17 rfl rfl)
theorem dX6_meetings_44 : decode cX6_meetings 44 = .ok (.iload_n 1, 1) := dk_27 (dk_at dksX6_meetings_1 20 rfl rfl)
theorem dX6_meetings_45 : decode cX6_meetings 45 = .ok (.ifCond .eq 20, 3) := dk_153 0 20 (dk_at dksX6_meetings_1 21 rfl rfl)
theorem dX6_meetings_48 : decode cX6_meetings 48 = .ok (.aload_n 0, 1) := dk_42 (dk_at dksX6_meetings_2 0 rfl rfl)
theorem dX6_meetings_49 : decode cX6_meetings 49 = .ok (.iload_n 3, 1) := dk_29 (dk_at dksX6_meetings_2 1 rfl rfl)
theorem dX6_meetings_50 : decode cX6_meetings 50 = .ok (.aload_n 0, 1) := dk_42 (dk_at dksX6_meetings_2 2 rfl rfl)
theorem dX6_meetings_51 : decode cX6_meetings 51 = .ok (.iload_n 3, 1) := dk_29 (dk_at dksX6_meetings_2 3 rfl rfl)
theorem dX6_meetings_52 : decode cX6_meetings 52 = .ok (.iload 4, 2) := dk_21 4 (dk_at dksX6_meetings_2 4 rfl rfl)
theorem dX6_meetings_54 : decode cX6_meetings 54 = .ok (.invokevirtual 271, 3) := dk_182 1 15 (dk_at dksX6_meetings_2 6 rfl rfl)
theorem dX6_meetings_57 : decode cX6_meetings 57 = .ok (.iload 4, 2) := dk_21 4 (dk_at dksX6_meetings_2 9 rfl rfl)
theorem dX6_meetings_59 : decode cX6_meetings 59 = .ok (.invokevirtual 337, 3) := dk_182 1 81 (dk_at dksX6_meetings_2 11 rfl rfl)
theorem dX6_meetings_62 : decode cX6_meetings 62 = .ok (.goto 4, 3) := dk_167 0 4 (dk_at dksX6_meetings_2 14 rfl rfl)
theorem dX6_meetings_65 : decode cX6_meetings 65 = .ok (.iconst 1, 1) := dk_4 (dk_at dksX6_meetings_2 17 rfl rfl)
theorem dX6_meetings_66 : decode cX6_meetings 66 = .ok (.iadd, 1) := dk_96 (dk_at dksX6_meetings_2 18 rfl rfl)
theorem dX6_meetings_67 : decode cX6_meetings 67 = .ok (.istore_n 2, 1) := dk_61 (dk_at dksX6_meetings_2 19 rfl rfl)
theorem dX6_meetings_68 : decode cX6_meetings 68 = .ok (.iinc 4 1, 3) := dk_132 4 1 (dk_at dksX6_meetings_2 20 rfl rfl)
theorem dX6_meetings_71 : decode cX6_meetings 71 = .ok (.goto (-49), 3) := dk_167 255 207 (dk_at dksX6_meetings_3 0 rfl rfl)
theorem dX6_meetings_74 : decode cX6_meetings 74 = .ok (.iinc 3 1, 3) := dk_132 3 1 (dk_at dksX6_meetings_3 3 rfl rfl)
theorem dX6_meetings_77 : decode cX6_meetings 77 = .ok (.goto (-68), 3) := dk_167 255 188 (dk_at dksX6_meetings_3 6 rfl rfl)
theorem dX6_meetings_80 : decode cX6_meetings 80 = .ok (.iload_n 2, 1) := dk_28 (dk_at dksX6_meetings_3 9 rfl rfl)
theorem dX6_meetings_81 : decode cX6_meetings 81 = .ok (.ireturn, 1) := dk_172 (dk_at dksX6_meetings_3 10 rfl rfl)
abbrev cX6_twice : ByteArray := prog_19_method_83_code
def yX6_twice : MethodName := ⟨RX6, "twice", "()I"⟩
def dkwX6_twice_3 : List UInt8 := [120, 167, 0, 4, 3, 128, 60, 132, 2, 1, 167, 255, 185, 27, 172]
abbrev dktX6_twice_3 : List UInt8 := dkwX6_twice_3 ++ []
def dkwX6_twice_2 : List UInt8 := [153, 0, 7, 4, 167, 0, 4, 3, 96, 62, 132, 4, 1, 167, 255, 221, 27, 29, 4, 164, 0, 9, 4, 28]
abbrev dktX6_twice_2 : List UInt8 := dkwX6_twice_2 ++ dktX6_twice_3
def dkwX6_twice_1 : List UInt8 := [21, 4, 42, 180, 0, 7, 6, 46, 162, 0, 30, 29, 42, 21, 4, 182, 1, 60, 28, 184, 0, 74]
abbrev dktX6_twice_1 : List UInt8 := dkwX6_twice_1 ++ dktX6_twice_2
def dkwX6_twice_0 : List UInt8 := [42, 3, 181, 0, 54, 3, 60, 3, 61, 28, 42, 180, 0, 7, 7, 46, 162, 0, 67, 3, 62, 3, 54, 4]
abbrev dktX6_twice_0 : List UInt8 := dkwX6_twice_0 ++ dktX6_twice_1
theorem dksX6_twice_0 : cX6_twice.data.toList.drop 0 = dktX6_twice_0 := by decide +kernel
theorem dksX6_twice_1 : cX6_twice.data.toList.drop 24 = dktX6_twice_1 := dk_seg dksX6_twice_0 24 rfl rfl
theorem dksX6_twice_2 : cX6_twice.data.toList.drop 46 = dktX6_twice_2 := dk_seg dksX6_twice_1 22 rfl rfl
theorem dksX6_twice_3 : cX6_twice.data.toList.drop 70 = dktX6_twice_3 := dk_seg dksX6_twice_2 24 rfl rfl
theorem dX6_twice_0 : decode cX6_twice 0 = .ok (.aload_n 0, 1) := dk_42 (dk_at dksX6_twice_0 0 rfl rfl)
theorem dX6_twice_1 : decode cX6_twice 1 = .ok (.iconst 0, 1) := dk_3 (dk_at dksX6_twice_0 1 rfl rfl)
theorem dX6_twice_2 : decode cX6_twice 2 = .ok (.putfield 54, 3) := dk_181 0 54 (dk_at dksX6_twice_0 2 rfl rfl)
theorem dX6_twice_5 : decode cX6_twice 5 = .ok (.iconst 0, 1) := dk_3 (dk_at dksX6_twice_0 5 rfl rfl)
theorem dX6_twice_6 : decode cX6_twice 6 = .ok (.istore_n 1, 1) := dk_60 (dk_at dksX6_twice_0 6 rfl rfl)
theorem dX6_twice_7 : decode cX6_twice 7 = .ok (.iconst 0, 1) := dk_3 (dk_at dksX6_twice_0 7 rfl rfl)
theorem dX6_twice_8 : decode cX6_twice 8 = .ok (.istore_n 2, 1) := dk_61 (dk_at dksX6_twice_0 8 rfl rfl)
theorem dX6_twice_9 : decode cX6_twice 9 = .ok (.iload_n 2, 1) := dk_28 (dk_at dksX6_twice_0 9 rfl rfl)
theorem dX6_twice_10 : decode cX6_twice 10 = .ok (.aload_n 0, 1) := dk_42 (dk_at dksX6_twice_0 10 rfl rfl)
theorem dX6_twice_11 : decode cX6_twice 11 = .ok (.getfield 7, 3) := dk_180 0 7 (dk_at dksX6_twice_0 11 rfl rfl)
theorem dX6_twice_14 : decode cX6_twice 14 = .ok (.iconst 4, 1) := dk_7 (dk_at dksX6_twice_0 14 rfl rfl)
theorem dX6_twice_15 : decode cX6_twice 15 = .ok (.iaload, 1) := dk_46 (dk_at dksX6_twice_0 15 rfl rfl)
theorem dX6_twice_16 : decode cX6_twice 16 = .ok (.if_icmp .ge 67, 3) := dk_162 0 67 (dk_at dksX6_twice_0 16 rfl rfl)
theorem dX6_twice_19 : decode cX6_twice 19 = .ok (.iconst 0, 1) := dk_3 (dk_at dksX6_twice_0 19 rfl rfl)
theorem dX6_twice_20 : decode cX6_twice 20 = .ok (.istore_n 3, 1) := dk_62 (dk_at dksX6_twice_0 20 rfl rfl)
theorem dX6_twice_21 : decode cX6_twice 21 = .ok (.iconst 0, 1) := dk_3 (dk_at dksX6_twice_0 21 rfl rfl)
theorem dX6_twice_22 : decode cX6_twice 22 = .ok (.istore 4, 2) := dk_54 4 (dk_at dksX6_twice_0 22 rfl rfl)
theorem dX6_twice_24 : decode cX6_twice 24 = .ok (.iload 4, 2) := dk_21 4 (dk_at dksX6_twice_1 0 rfl rfl)
theorem dX6_twice_26 : decode cX6_twice 26 = .ok (.aload_n 0, 1) := dk_42 (dk_at dksX6_twice_1 2 rfl rfl)
theorem dX6_twice_27 : decode cX6_twice 27 = .ok (.getfield 7, 3) := dk_180 0 7 (dk_at dksX6_twice_1 3 rfl rfl)
theorem dX6_twice_30 : decode cX6_twice 30 = .ok (.iconst 3, 1) := dk_6 (dk_at dksX6_twice_1 6 rfl rfl)
theorem dX6_twice_31 : decode cX6_twice 31 = .ok (.iaload, 1) := dk_46 (dk_at dksX6_twice_1 7 rfl rfl)
theorem dX6_twice_32 : decode cX6_twice 32 = .ok (.if_icmp .ge 30, 3) := dk_162 0 30 (dk_at dksX6_twice_1 8 rfl rfl)
theorem dX6_twice_35 : decode cX6_twice 35 = .ok (.iload_n 3, 1) := dk_29 (dk_at dksX6_twice_1 11 rfl rfl)
theorem dX6_twice_36 : decode cX6_twice 36 = .ok (.aload_n 0, 1) := dk_42 (dk_at dksX6_twice_1 12 rfl rfl)
theorem dX6_twice_37 : decode cX6_twice 37 = .ok (.iload 4, 2) := dk_21 4 (dk_at dksX6_twice_1 13 rfl rfl)
theorem dX6_twice_39 : decode cX6_twice 39 = .ok (.invokevirtual 316, 3) := dk_182 1 60 (dk_at dksX6_twice_1 15 rfl rfl)
theorem dX6_twice_42 : decode cX6_twice 42 = .ok (.iload_n 2, 1) := dk_28 (dk_at dksX6_twice_1 18 rfl rfl)
theorem dX6_twice_43 : decode cX6_twice 43 = .ok (.invokestatic 74, 3) := dk_184 0 74 (dk_at dksX6_twice_1 19 rfl rfl)
theorem dX6_twice_46 : decode cX6_twice 46 = .ok (.ifCond .eq 7, 3) := dk_153 0 7 (dk_at dksX6_twice_2 0 rfl rfl)
theorem dX6_twice_49 : decode cX6_twice 49 = .ok (.iconst 1, 1) := dk_4 (dk_at dksX6_twice_2 3 rfl rfl)
theorem dX6_twice_50 : decode cX6_twice 50 = .ok (.goto 4, 3) := dk_167 0 4 (dk_at dksX6_twice_2 4 rfl rfl)
theorem dX6_twice_53 : decode cX6_twice 53 = .ok (.iconst 0, 1) := dk_3 (dk_at dksX6_twice_2 7 rfl rfl)
theorem dX6_twice_54 : decode cX6_twice 54 = .ok (.iadd, 1) := dk_96 (dk_at dksX6_twice_2 8 rfl rfl)
theorem dX6_twice_55 : decode cX6_twice 55 = .ok (.istore_n 3, 1) := dk_62 (dk_at dksX6_twice_2 9 rfl rfl)
theorem dX6_twice_56 : decode cX6_twice 56 = .ok (.iinc 4 1, 3) := dk_132 4 1 (dk_at dksX6_twice_2 10 rfl rfl)
theorem dX6_twice_59 : decode cX6_twice 59 = .ok (.goto (-35), 3) := dk_167 255 221 (dk_at dksX6_twice_2 13 rfl rfl)
theorem dX6_twice_62 : decode cX6_twice 62 = .ok (.iload_n 1, 1) := dk_27 (dk_at dksX6_twice_2 16 rfl rfl)
theorem dX6_twice_63 : decode cX6_twice 63 = .ok (.iload_n 3, 1) := dk_29 (dk_at dksX6_twice_2 17 rfl rfl)
theorem dX6_twice_64 : decode cX6_twice 64 = .ok (.iconst 1, 1) := dk_4 (dk_at dksX6_twice_2 18 rfl rfl)
theorem dX6_twice_65 : decode cX6_twice 65 = .ok (.if_icmp .le 9, 3) := dk_164 0 9 (dk_at dksX6_twice_2 19 rfl rfl)
theorem dX6_twice_68 : decode cX6_twice 68 = .ok (.iconst 1, 1) := dk_4 (dk_at dksX6_twice_2 22 rfl rfl)
theorem dX6_twice_69 : decode cX6_twice 69 = .ok (.iload_n 2, 1) := dk_28 (dk_at dksX6_twice_2 23 rfl rfl)
theorem dX6_twice_70 : decode cX6_twice 70 = .ok (.ishl, 1) := dk_120 (dk_at dksX6_twice_3 0 rfl rfl)
theorem dX6_twice_71 : decode cX6_twice 71 = .ok (.goto 4, 3) := dk_167 0 4 (dk_at dksX6_twice_3 1 rfl rfl)
theorem dX6_twice_74 : decode cX6_twice 74 = .ok (.iconst 0, 1) := dk_3 (dk_at dksX6_twice_3 4 rfl rfl)
theorem dX6_twice_75 : decode cX6_twice 75 = .ok (.ior, 1) := dk_128 (dk_at dksX6_twice_3 5 rfl rfl)
theorem dX6_twice_76 : decode cX6_twice 76 = .ok (.istore_n 1, 1) := dk_60 (dk_at dksX6_twice_3 6 rfl rfl)
theorem dX6_twice_77 : decode cX6_twice 77 = .ok (.iinc 2 1, 3) := dk_132 2 1 (dk_at dksX6_twice_3 7 rfl rfl)
theorem dX6_twice_80 : decode cX6_twice 80 = .ok (.goto (-71), 3) := dk_167 255 185 (dk_at dksX6_twice_3 10 rfl rfl)
theorem dX6_twice_83 : decode cX6_twice 83 = .ok (.iload_n 1, 1) := dk_27 (dk_at dksX6_twice_3 13 rfl rfl)
theorem dX6_twice_84 : decode cX6_twice 84 = .ok (.ireturn, 1) := dk_172 (dk_at dksX6_twice_3 14 rfl rfl)
abbrev cX6_taboo : ByteArray := prog_19_method_84_code
def yX6_taboo : MethodName := ⟨RX6, "taboo", "()I"⟩
def dkwX6_taboo_2 : List UInt8 := [167, 0, 4, 3, 96, 60, 132, 3, 1, 167, 255, 220, 132, 2, 1, 167, 255, 202, 27, 172]
abbrev dktX6_taboo_2 : List UInt8 := dkwX6_taboo_2 ++ []
def dkwX6_taboo_1 : List UInt8 := [162, 0, 36, 27, 42, 28, 29, 182, 1, 15, 2, 159, 0, 16, 42, 28, 29, 182, 1, 31, 154, 0, 7, 4]
abbrev dktX6_taboo_1 : List UInt8 := dkwX6_taboo_1 ++ dktX6_taboo_2
def dkwX6_taboo_0 : List UInt8 := [42, 3, 181, 0, 54, 3, 60, 3, 61, 28, 42, 180, 0, 7, 6, 46, 162, 0, 50, 3, 62, 29, 16, 8]
abbrev dktX6_taboo_0 : List UInt8 := dkwX6_taboo_0 ++ dktX6_taboo_1
theorem dksX6_taboo_0 : cX6_taboo.data.toList.drop 0 = dktX6_taboo_0 := by decide +kernel
theorem dksX6_taboo_1 : cX6_taboo.data.toList.drop 24 = dktX6_taboo_1 := dk_seg dksX6_taboo_0 24 rfl rfl
theorem dksX6_taboo_2 : cX6_taboo.data.toList.drop 48 = dktX6_taboo_2 := dk_seg dksX6_taboo_1 24 rfl rfl
theorem dX6_taboo_0 : decode cX6_taboo 0 = .ok (.aload_n 0, 1) := dk_42 (dk_at dksX6_taboo_0 0 rfl rfl)
theorem dX6_taboo_1 : decode cX6_taboo 1 = .ok (.iconst 0, 1) := dk_3 (dk_at dksX6_taboo_0 1 rfl rfl)
theorem dX6_taboo_2 : decode cX6_taboo 2 = .ok (.putfield 54, 3) := dk_181 0 54 (dk_at dksX6_taboo_0 2 rfl rfl)
theorem dX6_taboo_5 : decode cX6_taboo 5 = .ok (.iconst 0, 1) := dk_3 (dk_at dksX6_taboo_0 5 rfl rfl)
theorem dX6_taboo_6 : decode cX6_taboo 6 = .ok (.istore_n 1, 1) := dk_60 (dk_at dksX6_taboo_0 6 rfl rfl)
theorem dX6_taboo_7 : decode cX6_taboo 7 = .ok (.iconst 0, 1) := dk_3 (dk_at dksX6_taboo_0 7 rfl rfl)
theorem dX6_taboo_8 : decode cX6_taboo 8 = .ok (.istore_n 2, 1) := dk_61 (dk_at dksX6_taboo_0 8 rfl rfl)
theorem dX6_taboo_9 : decode cX6_taboo 9 = .ok (.iload_n 2, 1) := dk_28 (dk_at dksX6_taboo_0 9 rfl rfl)
theorem dX6_taboo_10 : decode cX6_taboo 10 = .ok (.aload_n 0, 1) := dk_42 (dk_at dksX6_taboo_0 10 rfl rfl)
theorem dX6_taboo_11 : decode cX6_taboo 11 = .ok (.getfield 7, 3) := dk_180 0 7 (dk_at dksX6_taboo_0 11 rfl rfl)
theorem dX6_taboo_14 : decode cX6_taboo 14 = .ok (.iconst 3, 1) := dk_6 (dk_at dksX6_taboo_0 14 rfl rfl)
theorem dX6_taboo_15 : decode cX6_taboo 15 = .ok (.iaload, 1) := dk_46 (dk_at dksX6_taboo_0 15 rfl rfl)
theorem dX6_taboo_16 : decode cX6_taboo 16 = .ok (.if_icmp .ge 50, 3) := dk_162 0 50 (dk_at dksX6_taboo_0 16 rfl rfl)
theorem dX6_taboo_19 : decode cX6_taboo 19 = .ok (.iconst 0, 1) := dk_3 (dk_at dksX6_taboo_0 19 rfl rfl)
theorem dX6_taboo_20 : decode cX6_taboo 20 = .ok (.istore_n 3, 1) := dk_62 (dk_at dksX6_taboo_0 20 rfl rfl)
theorem dX6_taboo_21 : decode cX6_taboo 21 = .ok (.iload_n 3, 1) := dk_29 (dk_at dksX6_taboo_0 21 rfl rfl)
theorem dX6_taboo_22 : decode cX6_taboo 22 = .ok (.bipush 8, 2) := dk_16 8 (dk_at dksX6_taboo_0 22 rfl rfl)
theorem dX6_taboo_24 : decode cX6_taboo 24 = .ok (.if_icmp .ge 36, 3) := dk_162 0 36 (dk_at dksX6_taboo_1 0 rfl rfl)
theorem dX6_taboo_27 : decode cX6_taboo 27 = .ok (.iload_n 1, 1) := dk_27 (dk_at dksX6_taboo_1 3 rfl rfl)
theorem dX6_taboo_28 : decode cX6_taboo 28 = .ok (.aload_n 0, 1) := dk_42 (dk_at dksX6_taboo_1 4 rfl rfl)
theorem dX6_taboo_29 : decode cX6_taboo 29 = .ok (.iload_n 2, 1) := dk_28 (dk_at dksX6_taboo_1 5 rfl rfl)
theorem dX6_taboo_30 : decode cX6_taboo 30 = .ok (.iload_n 3, 1) := dk_29 (dk_at dksX6_taboo_1 6 rfl rfl)
theorem dX6_taboo_31 : decode cX6_taboo 31 = .ok (.invokevirtual 271, 3) := dk_182 1 15 (dk_at dksX6_taboo_1 7 rfl rfl)
theorem dX6_taboo_34 : decode cX6_taboo 34 = .ok (.iconst (-1), 1) := dk_2 (dk_at dksX6_taboo_1 10 rfl rfl)
theorem dX6_taboo_35 : decode cX6_taboo 35 = .ok (.if_icmp .eq 16, 3) := dk_159 0 16 (dk_at dksX6_taboo_1 11 rfl rfl)
theorem dX6_taboo_38 : decode cX6_taboo 38 = .ok (.aload_n 0, 1) := dk_42 (dk_at dksX6_taboo_1 14 rfl rfl)
theorem dX6_taboo_39 : decode cX6_taboo 39 = .ok (.iload_n 2, 1) := dk_28 (dk_at dksX6_taboo_1 15 rfl rfl)
theorem dX6_taboo_40 : decode cX6_taboo 40 = .ok (.iload_n 3, 1) := dk_29 (dk_at dksX6_taboo_1 16 rfl rfl)
theorem dX6_taboo_41 : decode cX6_taboo 41 = .ok (.invokevirtual 287, 3) := dk_182 1 31 (dk_at dksX6_taboo_1 17 rfl rfl)
theorem dX6_taboo_44 : decode cX6_taboo 44 = .ok (.ifCond .ne 7, 3) := dk_154 0 7 (dk_at dksX6_taboo_1 20 rfl rfl)
theorem dX6_taboo_47 : decode cX6_taboo 47 = .ok (.iconst 1, 1) := dk_4 (dk_at dksX6_taboo_1 23 rfl rfl)
theorem dX6_taboo_48 : decode cX6_taboo 48 = .ok (.goto 4, 3) := dk_167 0 4 (dk_at dksX6_taboo_2 0 rfl rfl)
theorem dX6_taboo_51 : decode cX6_taboo 51 = .ok (.iconst 0, 1) := dk_3 (dk_at dksX6_taboo_2 3 rfl rfl)
theorem dX6_taboo_52 : decode cX6_taboo 52 = .ok (.iadd, 1) := dk_96 (dk_at dksX6_taboo_2 4 rfl rfl)
theorem dX6_taboo_53 : decode cX6_taboo 53 = .ok (.istore_n 1, 1) := dk_60 (dk_at dksX6_taboo_2 5 rfl rfl)
theorem dX6_taboo_54 : decode cX6_taboo 54 = .ok (.iinc 3 1, 3) := dk_132 3 1 (dk_at dksX6_taboo_2 6 rfl rfl)
theorem dX6_taboo_57 : decode cX6_taboo 57 = .ok (.goto (-36), 3) := dk_167 255 220 (dk_at dksX6_taboo_2 9 rfl rfl)
theorem dX6_taboo_60 : decode cX6_taboo 60 = .ok (.iinc 2 1, 3) := dk_132 2 1 (dk_at dksX6_taboo_2 12 rfl rfl)
theorem dX6_taboo_63 : decode cX6_taboo 63 = .ok (.goto (-54), 3) := dk_167 255 202 (dk_at dksX6_taboo_2 15 rfl rfl)
theorem dX6_taboo_66 : decode cX6_taboo 66 = .ok (.iload_n 1, 1) := dk_27 (dk_at dksX6_taboo_2 18 rfl rfl)
theorem dX6_taboo_67 : decode cX6_taboo 67 = .ok (.ireturn, 1) := dk_172 (dk_at dksX6_taboo_2 19 rfl rfl)
abbrev cX6_hostBest : ByteArray := prog_19_method_90_code
def yX6_hostBest : MethodName := ⟨RX6, "hostBest", "(I)I"⟩
def dkwX6_hostBest_1 : List UInt8 := [3, 172, 42, 4, 182, 1, 109, 42, 180, 0, 32, 27, 46, 172]
abbrev dktX6_hostBest_1 : List UInt8 := dkwX6_hostBest_1 ++ []
def dkwX6_hostBest_0 : List UInt8 := [42, 42, 27, 182, 1, 54, 154, 0, 7, 4, 167, 0, 4, 3, 181, 0, 54, 42, 180, 0, 54, 158, 0, 5]
abbrev dktX6_hostBest_0 : List UInt8 := dkwX6_hostBest_0 ++ dktX6_hostBest_1
theorem dksX6_hostBest_0 : cX6_hostBest.data.toList.drop 0 = dktX6_hostBest_0 := by decide +kernel
theorem dksX6_hostBest_1 : cX6_hostBest.data.toList.drop 24 = dktX6_hostBest_1 := dk_seg dksX6_hostBest_0 24 rfl rfl
theorem dX6_hostBest_0 : decode cX6_hostBest 0 = .ok (.aload_n 0, 1) := dk_42 (dk_at dksX6_hostBest_0 0 rfl rfl)
theorem dX6_hostBest_1 : decode cX6_hostBest 1 = .ok (.aload_n 0, 1) := dk_42 (dk_at dksX6_hostBest_0 1 rfl rfl)
theorem dX6_hostBest_2 : decode cX6_hostBest 2 = .ok (.iload_n 1, 1) := dk_27 (dk_at dksX6_hostBest_0 2 rfl rfl)
theorem dX6_hostBest_3 : decode cX6_hostBest 3 = .ok (.invokevirtual 310, 3) := dk_182 1 54 (dk_at dksX6_hostBest_0 3 rfl rfl)
theorem dX6_hostBest_6 : decode cX6_hostBest 6 = .ok (.ifCond .ne 7, 3) := dk_154 0 7 (dk_at dksX6_hostBest_0 6 rfl rfl)
theorem dX6_hostBest_9 : decode cX6_hostBest 9 = .ok (.iconst 1, 1) := dk_4 (dk_at dksX6_hostBest_0 9 rfl rfl)
theorem dX6_hostBest_10 : decode cX6_hostBest 10 = .ok (.goto 4, 3) := dk_167 0 4 (dk_at dksX6_hostBest_0 10 rfl rfl)
theorem dX6_hostBest_13 : decode cX6_hostBest 13 = .ok (.iconst 0, 1) := dk_3 (dk_at dksX6_hostBest_0 13 rfl rfl)
theorem dX6_hostBest_14 : decode cX6_hostBest 14 = .ok (.putfield 54, 3) := dk_181 0 54 (dk_at dksX6_hostBest_0 14 rfl rfl)
theorem dX6_hostBest_17 : decode cX6_hostBest 17 = .ok (.aload_n 0, 1) := dk_42 (dk_at dksX6_hostBest_0 17 rfl rfl)
theorem dX6_hostBest_18 : decode cX6_hostBest 18 = .ok (.getfield 54, 3) := dk_180 0 54 (dk_at dksX6_hostBest_0 18 rfl rfl)
theorem dX6_hostBest_21 : decode cX6_hostBest 21 = .ok (.ifCond .le 5, 3) := dk_158 0 5 (dk_at dksX6_hostBest_0 21 rfl rfl)
theorem dX6_hostBest_24 : decode cX6_hostBest 24 = .ok (.iconst 0, 1) := dk_3 (dk_at dksX6_hostBest_1 0 rfl rfl)
theorem dX6_hostBest_25 : decode cX6_hostBest 25 = .ok (.ireturn, 1) := dk_172 (dk_at dksX6_hostBest_1 1 rfl rfl)
theorem dX6_hostBest_26 : decode cX6_hostBest 26 = .ok (.aload_n 0, 1) := dk_42 (dk_at dksX6_hostBest_1 2 rfl rfl)
theorem dX6_hostBest_27 : decode cX6_hostBest 27 = .ok (.iconst 1, 1) := dk_4 (dk_at dksX6_hostBest_1 3 rfl rfl)
theorem dX6_hostBest_28 : decode cX6_hostBest 28 = .ok (.invokevirtual 365, 3) := dk_182 1 109 (dk_at dksX6_hostBest_1 4 rfl rfl)
theorem dX6_hostBest_31 : decode cX6_hostBest 31 = .ok (.aload_n 0, 1) := dk_42 (dk_at dksX6_hostBest_1 7 rfl rfl)
theorem dX6_hostBest_32 : decode cX6_hostBest 32 = .ok (.getfield 32, 3) := dk_180 0 32 (dk_at dksX6_hostBest_1 8 rfl rfl)
theorem dX6_hostBest_35 : decode cX6_hostBest 35 = .ok (.iload_n 1, 1) := dk_27 (dk_at dksX6_hostBest_1 11 rfl rfl)
theorem dX6_hostBest_36 : decode cX6_hostBest 36 = .ok (.iaload, 1) := dk_46 (dk_at dksX6_hostBest_1 12 rfl rfl)
theorem dX6_hostBest_37 : decode cX6_hostBest 37 = .ok (.ireturn, 1) := dk_172 (dk_at dksX6_hostBest_1 13 rfl rfl)
abbrev cX6_pairs : ByteArray := prog_19_method_87_code
def yX6_pairs : MethodName := ⟨RX6, "pairs", "(Z)V"⟩
def dkwX6_pairs_7 : List UInt8 := [167, 255, 173, 177]
abbrev dktX6_pairs_7 : List UInt8 := dkwX6_pairs_7 ++ []
def dkwX6_pairs_6 : List UInt8 := [160, 0, 6, 167, 0, 15, 42, 21, 5, 21, 6, 27, 182, 1, 99, 4, 54, 4, 132, 5, 1, 167, 255, 187]
abbrev dktX6_pairs_6 : List UInt8 := dkwX6_pairs_6 ++ dktX6_pairs_7
def dkwX6_pairs_5 : List UInt8 := [21, 5, 46, 2, 160, 0, 14, 42, 21, 5, 29, 27, 182, 1, 95, 167, 0, 4, 2, 54, 6, 21, 6, 2]
abbrev dktX6_pairs_5 : List UInt8 := dkwX6_pairs_5 ++ dktX6_pairs_6
def dkwX6_pairs_4 : List UInt8 := [21, 5, 28, 162, 0, 69, 27, 153, 0, 13, 42, 180, 0, 32, 21, 5, 46, 167, 0, 10, 42, 180, 0, 35]
abbrev dktX6_pairs_4 : List UInt8 := dkwX6_pairs_4 ++ dktX6_pairs_5
def dkwX6_pairs_3 : List UInt8 := [21, 4, 3, 79, 132, 4, 1, 167, 255, 222, 4, 54, 4, 21, 4, 153, 0, 84, 3, 54, 4, 3, 54, 5]
abbrev dktX6_pairs_3 : List UInt8 := dkwX6_pairs_3 ++ dktX6_pairs_4
def dkwX6_pairs_2 : List UInt8 := [162, 0, 33, 42, 180, 0, 32, 21, 4, 2, 79, 42, 180, 0, 35, 21, 4, 2, 79, 42, 180, 0, 38]
abbrev dktX6_pairs_2 : List UInt8 := dkwX6_pairs_2 ++ dktX6_pairs_3
def dkwX6_pairs_1 : List UInt8 := [42, 180, 0, 7, 7, 46, 167, 0, 9, 42, 180, 0, 7, 6, 46, 62, 3, 54, 4, 21, 4, 16, 8]
abbrev dktX6_pairs_1 : List UInt8 := dkwX6_pairs_1 ++ dktX6_pairs_2
def dkwX6_pairs_0 : List UInt8 := [27, 153, 0, 12, 42, 180, 0, 7, 6, 46, 167, 0, 9, 42, 180, 0, 7, 7, 46, 61, 27, 153, 0, 12]
abbrev dktX6_pairs_0 : List UInt8 := dkwX6_pairs_0 ++ dktX6_pairs_1
theorem dksX6_pairs_0 : cX6_pairs.data.toList.drop 0 = dktX6_pairs_0 := by decide +kernel
theorem dksX6_pairs_1 : cX6_pairs.data.toList.drop 24 = dktX6_pairs_1 := dk_seg dksX6_pairs_0 24 rfl rfl
theorem dksX6_pairs_2 : cX6_pairs.data.toList.drop 47 = dktX6_pairs_2 := dk_seg dksX6_pairs_1 23 rfl rfl
theorem dksX6_pairs_3 : cX6_pairs.data.toList.drop 70 = dktX6_pairs_3 := dk_seg dksX6_pairs_2 23 rfl rfl
theorem dksX6_pairs_4 : cX6_pairs.data.toList.drop 94 = dktX6_pairs_4 := dk_seg dksX6_pairs_3 24 rfl rfl
theorem dksX6_pairs_5 : cX6_pairs.data.toList.drop 118 = dktX6_pairs_5 := dk_seg dksX6_pairs_4 24 rfl rfl
theorem dksX6_pairs_6 : cX6_pairs.data.toList.drop 142 = dktX6_pairs_6 := dk_seg dksX6_pairs_5 24 rfl rfl
theorem dksX6_pairs_7 : cX6_pairs.data.toList.drop 166 = dktX6_pairs_7 := dk_seg dksX6_pairs_6 24 rfl rfl
theorem dX6_pairs_0 : decode cX6_pairs 0 = .ok (.iload_n 1, 1) := dk_27 (dk_at dksX6_pairs_0 0 rfl rfl)
theorem dX6_pairs_1 : decode cX6_pairs 1 = .ok (.ifCond .eq 12, 3) := dk_153 0 12 (dk_at dksX6_pairs_0 1 rfl rfl)
theorem dX6_pairs_4 : decode cX6_pairs 4 = .ok (.aload_n 0, 1) := dk_42 (dk_at dksX6_pairs_0 4 rfl rfl)
theorem dX6_pairs_5 : decode cX6_pairs 5 = .ok (.getfield 7, 3) := dk_180 0 7 (dk_at dksX6_pairs_0 5 rfl rfl)
theorem dX6_pairs_8 : decode cX6_pairs 8 = .ok (.iconst 3, 1) := dk_6 (dk_at dksX6_pairs_0 8 rfl rfl)
theorem dX6_pairs_9 : decode cX6_pairs 9 = .ok (.iaload, 1) := dk_46 (dk_at dksX6_pairs_0 9 rfl rfl)
theorem dX6_pairs_10 : decode cX6_pairs 10 = .ok (.goto 9, 3) := dk_167 0 9 (dk_at dksX6_pairs_0 10 rfl rfl)
theorem dX6_pairs_13 : decode cX6_pairs 13 = .ok (.aload_n 0, 1) := dk_42 (dk_at dksX6_pairs_0 13 rfl rfl)
theorem dX6_pairs_14 : decode cX6_pairs 14 = .ok (.getfield 7, 3) := dk_180 0 7 (dk_at dksX6_pairs_0 14 rfl rfl)
theorem dX6_pairs_17 : decode cX6_pairs 17 = .ok (.iconst 4, 1) := dk_7 (dk_at dksX6_pairs_0 17 rfl rfl)
theorem dX6_pairs_18 : decode cX6_pairs 18 = .ok (.iaload, 1) := dk_46 (dk_at dksX6_pairs_0 18 rfl rfl)
theorem dX6_pairs_19 : decode cX6_pairs 19 = .ok (.istore_n 2, 1) := dk_61 (dk_at dksX6_pairs_0 19 rfl rfl)
theorem dX6_pairs_20 : decode cX6_pairs 20 = .ok (.iload_n 1, 1) := dk_27 (dk_at dksX6_pairs_0 20 rfl rfl)
theorem dX6_pairs_21 : decode cX6_pairs 21 = .ok (.ifCond .eq 12, 3) := dk_153 0 12 (dk_at dksX6_pairs_0 21 rfl rfl)
theorem dX6_pairs_24 : decode cX6_pairs 24 = .ok (.aload_n 0, 1) := dk_42 (dk_at dksX6_pairs_1 0 rfl rfl)
theorem dX6_pairs_25 : decode cX6_pairs 25 = .ok (.getfield 7, 3) := dk_180 0 7 (dk_at dksX6_pairs_1 1 rfl rfl)
theorem dX6_pairs_28 : decode cX6_pairs 28 = .ok (.iconst 4, 1) := dk_7 (dk_at dksX6_pairs_1 4 rfl rfl)
theorem dX6_pairs_29 : decode cX6_pairs 29 = .ok (.iaload, 1) := dk_46 (dk_at dksX6_pairs_1 5 rfl rfl)
theorem dX6_pairs_30 : decode cX6_pairs 30 = .ok (.goto 9, 3) := dk_167 0 9 (dk_at dksX6_pairs_1 6 rfl rfl)
theorem dX6_pairs_33 : decode cX6_pairs 33 = .ok (.aload_n 0, 1) := dk_42 (dk_at dksX6_pairs_1 9 rfl rfl)
theorem dX6_pairs_34 : decode cX6_pairs 34 = .ok (.getfield 7, 3) := dk_180 0 7 (dk_at dksX6_pairs_1 10 rfl rfl)
theorem dX6_pairs_37 : decode cX6_pairs 37 = .ok (.iconst 3, 1) := dk_6 (dk_at dksX6_pairs_1 13 rfl rfl)
theorem dX6_pairs_38 : decode cX6_pairs 38 = .ok (.iaload, 1) := dk_46 (dk_at dksX6_pairs_1 14 rfl rfl)
theorem dX6_pairs_39 : decode cX6_pairs 39 = .ok (.istore_n 3, 1) := dk_62 (dk_at dksX6_pairs_1 15 rfl rfl)
theorem dX6_pairs_40 : decode cX6_pairs 40 = .ok (.iconst 0, 1) := dk_3 (dk_at dksX6_pairs_1 16 rfl rfl)
theorem dX6_pairs_41 : decode cX6_pairs 41 = .ok (.istore 4, 2) := dk_54 4 (dk_at dksX6_pairs_1 17 rfl rfl)
theorem dX6_pairs_43 : decode cX6_pairs 43 = .ok (.iload 4, 2) := dk_21 4 (dk_at dksX6_pairs_1 19 rfl rfl)
theorem dX6_pairs_45 : decode cX6_pairs 45 = .ok (.bipush 8, 2) := dk_16 8 (dk_at dksX6_pairs_1 21 rfl rfl)
theorem dX6_pairs_47 : decode cX6_pairs 47 = .ok (.if_icmp .ge 33, 3) := dk_162 0 33 (dk_at dksX6_pairs_2 0 rfl rfl)
theorem dX6_pairs_50 : decode cX6_pairs 50 = .ok (.aload_n 0, 1) := dk_42 (dk_at dksX6_pairs_2 3 rfl rfl)
theorem dX6_pairs_51 : decode cX6_pairs 51 = .ok (.getfield 32, 3) := dk_180 0 32 (dk_at dksX6_pairs_2 4 rfl rfl)
theorem dX6_pairs_54 : decode cX6_pairs 54 = .ok (.iload 4, 2) := dk_21 4 (dk_at dksX6_pairs_2 7 rfl rfl)
theorem dX6_pairs_56 : decode cX6_pairs 56 = .ok (.iconst (-1), 1) := dk_2 (dk_at dksX6_pairs_2 9 rfl rfl)
theorem dX6_pairs_57 : decode cX6_pairs 57 = .ok (.iastore, 1) := dk_79 (dk_at dksX6_pairs_2 10 rfl rfl)
theorem dX6_pairs_58 : decode cX6_pairs 58 = .ok (.aload_n 0, 1) := dk_42 (dk_at dksX6_pairs_2 11 rfl rfl)
theorem dX6_pairs_59 : decode cX6_pairs 59 = .ok (.getfield 35, 3) := dk_180 0 35 (dk_at dksX6_pairs_2 12 rfl rfl)
theorem dX6_pairs_62 : decode cX6_pairs 62 = .ok (.iload 4, 2) := dk_21 4 (dk_at dksX6_pairs_2 15 rfl rfl)
theorem dX6_pairs_64 : decode cX6_pairs 64 = .ok (.iconst (-1), 1) := dk_2 (dk_at dksX6_pairs_2 17 rfl rfl)
theorem dX6_pairs_65 : decode cX6_pairs 65 = .ok (.iastore, 1) := dk_79 (dk_at dksX6_pairs_2 18 rfl rfl)
theorem dX6_pairs_66 : decode cX6_pairs 66 = .ok (.aload_n 0, 1) := dk_42 (dk_at dksX6_pairs_2 19 rfl rfl)
theorem dX6_pairs_67 : decode cX6_pairs 67 = .ok (.getfield 38, 3) := dk_180 0 38 (dk_at dksX6_pairs_2 20 rfl rfl)
theorem dX6_pairs_70 : decode cX6_pairs 70 = .ok (.iload 4, 2) := dk_21 4 (dk_at dksX6_pairs_3 0 rfl rfl)
theorem dX6_pairs_72 : decode cX6_pairs 72 = .ok (.iconst 0, 1) := dk_3 (dk_at dksX6_pairs_3 2 rfl rfl)
theorem dX6_pairs_73 : decode cX6_pairs 73 = .ok (.iastore, 1) := dk_79 (dk_at dksX6_pairs_3 3 rfl rfl)
theorem dX6_pairs_74 : decode cX6_pairs 74 = .ok (.iinc 4 1, 3) := dk_132 4 1 (dk_at dksX6_pairs_3 4 rfl rfl)
theorem dX6_pairs_77 : decode cX6_pairs 77 = .ok (.goto (-34), 3) := dk_167 255 222 (dk_at dksX6_pairs_3 7 rfl rfl)
theorem dX6_pairs_80 : decode cX6_pairs 80 = .ok (.iconst 1, 1) := dk_4 (dk_at dksX6_pairs_3 10 rfl rfl)
theorem dX6_pairs_81 : decode cX6_pairs 81 = .ok (.istore 4, 2) := dk_54 4 (dk_at dksX6_pairs_3 11 rfl rfl)
theorem dX6_pairs_83 : decode cX6_pairs 83 = .ok (.iload 4, 2) := dk_21 4 (dk_at dksX6_pairs_3 13 rfl rfl)
theorem dX6_pairs_85 : decode cX6_pairs 85 = .ok (.ifCond .eq 84, 3) := dk_153 0 84 (dk_at dksX6_pairs_3 15 rfl rfl)
theorem dX6_pairs_88 : decode cX6_pairs 88 = .ok (.iconst 0, 1) := dk_3 (dk_at dksX6_pairs_3 18 rfl rfl)
theorem dX6_pairs_89 : decode cX6_pairs 89 = .ok (.istore 4, 2) := dk_54 4 (dk_at dksX6_pairs_3 19 rfl rfl)
theorem dX6_pairs_91 : decode cX6_pairs 91 = .ok (.iconst 0, 1) := dk_3 (dk_at dksX6_pairs_3 21 rfl rfl)
theorem dX6_pairs_92 : decode cX6_pairs 92 = .ok (.istore 5, 2) := dk_54 5 (dk_at dksX6_pairs_3 22 rfl rfl)
theorem dX6_pairs_94 : decode cX6_pairs 94 = .ok (.iload 5, 2) := dk_21 5 (dk_at dksX6_pairs_4 0 rfl rfl)
theorem dX6_pairs_96 : decode cX6_pairs 96 = .ok (.iload_n 2, 1) := dk_28 (dk_at dksX6_pairs_4 2 rfl rfl)
theorem dX6_pairs_97 : decode cX6_pairs 97 = .ok (.if_icmp .ge 69, 3) := dk_162 0 69 (dk_at dksX6_pairs_4 3 rfl rfl)
theorem dX6_pairs_100 : decode cX6_pairs 100 = .ok (.iload_n 1, 1) := dk_27 (dk_at dksX6_pairs_4 6 rfl rfl)
theorem dX6_pairs_101 : decode cX6_pairs 101 = .ok (.ifCond .eq 13, 3) := dk_153 0 13 (dk_at dksX6_pairs_4 7 rfl rfl)
theorem dX6_pairs_104 : decode cX6_pairs 104 = .ok (.aload_n 0, 1) := dk_42 (dk_at dksX6_pairs_4 10 rfl rfl)
theorem dX6_pairs_105 : decode cX6_pairs 105 = .ok (.getfield 32, 3) := dk_180 0 32 (dk_at dksX6_pairs_4 11 rfl rfl)
theorem dX6_pairs_108 : decode cX6_pairs 108 = .ok (.iload 5, 2) := dk_21 5 (dk_at dksX6_pairs_4 14 rfl rfl)
theorem dX6_pairs_110 : decode cX6_pairs 110 = .ok (.iaload, 1) := dk_46 (dk_at dksX6_pairs_4 16 rfl rfl)
theorem dX6_pairs_111 : decode cX6_pairs 111 = .ok (.goto 10, 3) := dk_167 0 10 (dk_at dksX6_pairs_4 17 rfl rfl)
theorem dX6_pairs_114 : decode cX6_pairs 114 = .ok (.aload_n 0, 1) := dk_42 (dk_at dksX6_pairs_4 20 rfl rfl)
theorem dX6_pairs_115 : decode cX6_pairs 115 = .ok (.getfield 35, 3) := dk_180 0 35 (dk_at dksX6_pairs_4 21 rfl rfl)
theorem dX6_pairs_118 : decode cX6_pairs 118 = .ok (.iload 5, 2) := dk_21 5 (dk_at dksX6_pairs_5 0 rfl rfl)
theorem dX6_pairs_120 : decode cX6_pairs 120 = .ok (.iaload, 1) := dk_46 (dk_at dksX6_pairs_5 2 rfl rfl)
theorem dX6_pairs_121 : decode cX6_pairs 121 = .ok (.iconst (-1), 1) := dk_2 (dk_at dksX6_pairs_5 3 rfl rfl)
theorem dX6_pairs_122 : decode cX6_pairs 122 = .ok (.if_icmp .ne 14, 3) := dk_160 0 14 (dk_at dksX6_pairs_5 4 rfl rfl)
theorem dX6_pairs_125 : decode cX6_pairs 125 = .ok (.aload_n 0, 1) := dk_42 (dk_at dksX6_pairs_5 7 rfl rfl)
theorem dX6_pairs_126 : decode cX6_pairs 126 = .ok (.iload 5, 2) := dk_21 5 (dk_at dksX6_pairs_5 8 rfl rfl)
theorem dX6_pairs_128 : decode cX6_pairs 128 = .ok (.iload_n 3, 1) := dk_29 (dk_at dksX6_pairs_5 10 rfl rfl)
theorem dX6_pairs_129 : decode cX6_pairs 129 = .ok (.iload_n 1, 1) := dk_27 (dk_at dksX6_pairs_5 11 rfl rfl)
theorem dX6_pairs_130 : decode cX6_pairs 130 = .ok (.invokevirtual 351, 3) := dk_182 1 95 (dk_at dksX6_pairs_5 12 rfl rfl)
theorem dX6_pairs_133 : decode cX6_pairs 133 = .ok (.goto 4, 3) := dk_167 0 4 (dk_at dksX6_pairs_5 15 rfl rfl)
theorem dX6_pairs_136 : decode cX6_pairs 136 = .ok (.iconst (-1), 1) := dk_2 (dk_at dksX6_pairs_5 18 rfl rfl)
theorem dX6_pairs_137 : decode cX6_pairs 137 = .ok (.istore 6, 2) := dk_54 6 (dk_at dksX6_pairs_5 19 rfl rfl)
theorem dX6_pairs_139 : decode cX6_pairs 139 = .ok (.iload 6, 2) := dk_21 6 (dk_at dksX6_pairs_5 21 rfl rfl)
theorem dX6_pairs_141 : decode cX6_pairs 141 = .ok (.iconst (-1), 1) := dk_2 (dk_at dksX6_pairs_5 23 rfl rfl)
theorem dX6_pairs_142 : decode cX6_pairs 142 = .ok (.if_icmp .ne 6, 3) := dk_160 0 6 (dk_at dksX6_pairs_6 0 rfl rfl)
theorem dX6_pairs_145 : decode cX6_pairs 145 = .ok (.goto 15, 3) := dk_167 0 15 (dk_at dksX6_pairs_6 3 rfl rfl)
theorem dX6_pairs_148 : decode cX6_pairs 148 = .ok (.aload_n 0, 1) := dk_42 (dk_at dksX6_pairs_6 6 rfl rfl)
theorem dX6_pairs_149 : decode cX6_pairs 149 = .ok (.iload 5, 2) := dk_21 5 (dk_at dksX6_pairs_6 7 rfl rfl)
theorem dX6_pairs_151 : decode cX6_pairs 151 = .ok (.iload 6, 2) := dk_21 6 (dk_at dksX6_pairs_6 9 rfl rfl)
theorem dX6_pairs_153 : decode cX6_pairs 153 = .ok (.iload_n 1, 1) := dk_27 (dk_at dksX6_pairs_6 11 rfl rfl)
theorem dX6_pairs_154 : decode cX6_pairs 154 = .ok (.invokevirtual 355, 3) := dk_182 1 99 (dk_at dksX6_pairs_6 12 rfl rfl)
theorem dX6_pairs_157 : decode cX6_pairs 157 = .ok (.iconst 1, 1) := dk_4 (dk_at dksX6_pairs_6 15 rfl rfl)
theorem dX6_pairs_158 : decode cX6_pairs 158 = .ok (.istore 4, 2) := dk_54 4 (dk_at dksX6_pairs_6 16 rfl rfl)
theorem dX6_pairs_160 : decode cX6_pairs 160 = .ok (.iinc 5 1, 3) := dk_132 5 1 (dk_at dksX6_pairs_6 18 rfl rfl)
theorem dX6_pairs_163 : decode cX6_pairs 163 = .ok (.goto (-69), 3) := dk_167 255 187 (dk_at dksX6_pairs_6 21 rfl rfl)
theorem dX6_pairs_166 : decode cX6_pairs 166 = .ok (.goto (-83), 3) := dk_167 255 173 (dk_at dksX6_pairs_7 0 rfl rfl)
theorem dX6_pairs_169 : decode cX6_pairs 169 = .ok (.return_, 1) := dk_177 (dk_at dksX6_pairs_7 3 rfl rfl)
abbrev cX6_wants : ByteArray := prog_19_method_88_code
def yX6_wants : MethodName := ⟨RX6, "wants", "(IIZ)I"⟩
def dkwX6_wants_4 : List UInt8 := [153, 0, 7, 21, 5, 54, 4, 132, 5, 1, 167, 255, 159, 21, 4, 172]
abbrev dktX6_wants_4 : List UInt8 := dkwX6_wants_4 ++ []
def dkwX6_wants_3 : List UInt8 := [21, 5, 21, 4, 182, 1, 103, 153, 0, 22, 167, 0, 15, 42, 27, 21, 5, 21, 4, 182, 1, 106]
abbrev dktX6_wants_3 : List UInt8 := dkwX6_wants_3 ++ dktX6_wants_4
def dkwX6_wants_2 : List UInt8 := [182, 0, 78, 153, 0, 7, 4, 167, 0, 4, 3, 54, 6, 21, 6, 153, 0, 38, 29, 153, 0, 18, 42, 27]
abbrev dktX6_wants_2 : List UInt8 := dkwX6_wants_2 ++ dktX6_wants_3
def dkwX6_wants_1 : List UInt8 := [154, 0, 34, 29, 153, 0, 16, 42, 27, 21, 5, 182, 0, 78, 153, 0, 20, 167, 0, 13, 42, 21, 5, 27]
abbrev dktX6_wants_1 : List UInt8 := dkwX6_wants_1 ++ dktX6_wants_2
def dkwX6_wants_0 : List UInt8 := [2, 54, 4, 3, 54, 5, 21, 5, 28, 162, 0, 97, 42, 180, 0, 38, 27, 46, 21, 5, 184, 0, 74]
abbrev dktX6_wants_0 : List UInt8 := dkwX6_wants_0 ++ dktX6_wants_1
theorem dksX6_wants_0 : cX6_wants.data.toList.drop 0 = dktX6_wants_0 := by decide +kernel
theorem dksX6_wants_1 : cX6_wants.data.toList.drop 23 = dktX6_wants_1 := dk_seg dksX6_wants_0 23 rfl rfl
theorem dksX6_wants_2 : cX6_wants.data.toList.drop 47 = dktX6_wants_2 := dk_seg dksX6_wants_1 24 rfl rfl
theorem dksX6_wants_3 : cX6_wants.data.toList.drop 71 = dktX6_wants_3 := dk_seg dksX6_wants_2 24 rfl rfl
theorem dksX6_wants_4 : cX6_wants.data.toList.drop 93 = dktX6_wants_4 := dk_seg dksX6_wants_3 22 rfl rfl
theorem dX6_wants_0 : decode cX6_wants 0 = .ok (.iconst (-1), 1) := dk_2 (dk_at dksX6_wants_0 0 rfl rfl)
theorem dX6_wants_1 : decode cX6_wants 1 = .ok (.istore 4, 2) := dk_54 4 (dk_at dksX6_wants_0 1 rfl rfl)
theorem dX6_wants_3 : decode cX6_wants 3 = .ok (.iconst 0, 1) := dk_3 (dk_at dksX6_wants_0 3 rfl rfl)
theorem dX6_wants_4 : decode cX6_wants 4 = .ok (.istore 5, 2) := dk_54 5 (dk_at dksX6_wants_0 4 rfl rfl)
theorem dX6_wants_6 : decode cX6_wants 6 = .ok (.iload 5, 2) := dk_21 5 (dk_at dksX6_wants_0 6 rfl rfl)
theorem dX6_wants_8 : decode cX6_wants 8 = .ok (.iload_n 2, 1) := dk_28 (dk_at dksX6_wants_0 8 rfl rfl)
theorem dX6_wants_9 : decode cX6_wants 9 = .ok (.if_icmp .ge 97, 3) := dk_162 0 97 (dk_at dksX6_wants_0 9 rfl rfl)
theorem dX6_wants_12 : decode cX6_wants 12 = .ok (.aload_n 0, 1) := dk_42 (dk_at dksX6_wants_0 12 rfl rfl)
theorem dX6_wants_13 : decode cX6_wants 13 = .ok (.getfield 38, 3) := dk_180 0 38 (dk_at dksX6_wants_0 13 rfl rfl)
theorem dX6_wants_16 : decode cX6_wants 16 = .ok (.iload_n 1, 1) := dk_27 (dk_at dksX6_wants_0 16 rfl rfl)
theorem dX6_wants_17 : decode cX6_wants 17 = .ok (.iaload, 1) := dk_46 (dk_at dksX6_wants_0 17 rfl rfl)
theorem dX6_wants_18 : decode cX6_wants 18 = .ok (.iload 5, 2) := dk_21 5 (dk_at dksX6_wants_0 18 rfl rfl)
theorem dX6_wants_20 : decode cX6_wants 20 = .ok (.invokestatic 74, 3) := dk_184 0 74 (dk_at dksX6_wants_0 20 rfl rfl)
theorem dX6_wants_23 : decode cX6_wants 23 = .ok (.ifCond .ne 34, 3) := dk_154 0 34 (dk_at dksX6_wants_1 0 rfl rfl)
theorem dX6_wants_26 : decode cX6_wants 26 = .ok (.iload_n 3, 1) := dk_29 (dk_at dksX6_wants_1 3 rfl rfl)
theorem dX6_wants_27 : decode cX6_wants 27 = .ok (.ifCond .eq 16, 3) := dk_153 0 16 (dk_at dksX6_wants_1 4 rfl rfl)
theorem dX6_wants_30 : decode cX6_wants 30 = .ok (.aload_n 0, 1) := dk_42 (dk_at dksX6_wants_1 7 rfl rfl)
theorem dX6_wants_31 : decode cX6_wants 31 = .ok (.iload_n 1, 1) := dk_27 (dk_at dksX6_wants_1 8 rfl rfl)
theorem dX6_wants_32 : decode cX6_wants 32 = .ok (.iload 5, 2) := dk_21 5 (dk_at dksX6_wants_1 9 rfl rfl)
theorem dX6_wants_34 : decode cX6_wants 34 = .ok (.invokevirtual 78, 3) := dk_182 0 78 (dk_at dksX6_wants_1 11 rfl rfl)
theorem dX6_wants_37 : decode cX6_wants 37 = .ok (.ifCond .eq 20, 3) := dk_153 0 20 (dk_at dksX6_wants_1 14 rfl rfl)
theorem dX6_wants_40 : decode cX6_wants 40 = .ok (.goto 13, 3) := dk_167 0 13 (dk_at dksX6_wants_1 17 rfl rfl)
theorem dX6_wants_43 : decode cX6_wants 43 = .ok (.aload_n 0, 1) := dk_42 (dk_at dksX6_wants_1 20 rfl rfl)
theorem dX6_wants_44 : decode cX6_wants 44 = .ok (.iload 5, 2) := dk_21 5 (dk_at dksX6_wants_1 21 rfl rfl)
theorem dX6_wants_46 : decode cX6_wants 46 = .ok (.iload_n 1, 1) := dk_27 (dk_at dksX6_wants_1 23 rfl rfl)
theorem dX6_wants_47 : decode cX6_wants 47 = .ok (.invokevirtual 78, 3) := dk_182 0 78 (dk_at dksX6_wants_2 0 rfl rfl)
theorem dX6_wants_50 : decode cX6_wants 50 = .ok (.ifCond .eq 7, 3) := dk_153 0 7 (dk_at dksX6_wants_2 3 rfl rfl)
theorem dX6_wants_53 : decode cX6_wants 53 = .ok (.iconst 1, 1) := dk_4 (dk_at dksX6_wants_2 6 rfl rfl)
theorem dX6_wants_54 : decode cX6_wants 54 = .ok (.goto 4, 3) := dk_167 0 4 (dk_at dksX6_wants_2 7 rfl rfl)
theorem dX6_wants_57 : decode cX6_wants 57 = .ok (.iconst 0, 1) := dk_3 (dk_at dksX6_wants_2 10 rfl rfl)
theorem dX6_wants_58 : decode cX6_wants 58 = .ok (.istore 6, 2) := dk_54 6 (dk_at dksX6_wants_2 11 rfl rfl)
theorem dX6_wants_60 : decode cX6_wants 60 = .ok (.iload 6, 2) := dk_21 6 (dk_at dksX6_wants_2 13 rfl rfl)
theorem dX6_wants_62 : decode cX6_wants 62 = .ok (.ifCond .eq 38, 3) := dk_153 0 38 (dk_at dksX6_wants_2 15 rfl rfl)
theorem dX6_wants_65 : decode cX6_wants 65 = .ok (.iload_n 3, 1) := dk_29 (dk_at dksX6_wants_2 18 rfl rfl)
theorem dX6_wants_66 : decode cX6_wants 66 = .ok (.ifCond .eq 18, 3) := dk_153 0 18 (dk_at dksX6_wants_2 19 rfl rfl)
theorem dX6_wants_69 : decode cX6_wants 69 = .ok (.aload_n 0, 1) := dk_42 (dk_at dksX6_wants_2 22 rfl rfl)
theorem dX6_wants_70 : decode cX6_wants 70 = .ok (.iload_n 1, 1) := dk_27 (dk_at dksX6_wants_2 23 rfl rfl)
theorem dX6_wants_71 : decode cX6_wants 71 = .ok (.iload 5, 2) := dk_21 5 (dk_at dksX6_wants_3 0 rfl rfl)
theorem dX6_wants_73 : decode cX6_wants 73 = .ok (.iload 4, 2) := dk_21 4 (dk_at dksX6_wants_3 2 rfl rfl)
theorem dX6_wants_75 : decode cX6_wants 75 = .ok (.invokevirtual 359, 3) := dk_182 1 103 (dk_at dksX6_wants_3 4 rfl rfl)
theorem dX6_wants_78 : decode cX6_wants 78 = .ok (.ifCond .eq 22, 3) := dk_153 0 22 (dk_at dksX6_wants_3 7 rfl rfl)
theorem dX6_wants_81 : decode cX6_wants 81 = .ok (.goto 15, 3) := dk_167 0 15 (dk_at dksX6_wants_3 10 rfl rfl)
theorem dX6_wants_84 : decode cX6_wants 84 = .ok (.aload_n 0, 1) := dk_42 (dk_at dksX6_wants_3 13 rfl rfl)
theorem dX6_wants_85 : decode cX6_wants 85 = .ok (.iload_n 1, 1) := dk_27 (dk_at dksX6_wants_3 14 rfl rfl)
theorem dX6_wants_86 : decode cX6_wants 86 = .ok (.iload 5, 2) := dk_21 5 (dk_at dksX6_wants_3 15 rfl rfl)
theorem dX6_wants_88 : decode cX6_wants 88 = .ok (.iload 4, 2) := dk_21 4 (dk_at dksX6_wants_3 17 rfl rfl)
theorem dX6_wants_90 : decode cX6_wants 90 = .ok (.invokevirtual 362, 3) := dk_182 1 106 (dk_at dksX6_wants_3 19 rfl rfl)
theorem dX6_wants_93 : decode cX6_wants 93 = .ok (.ifCond .eq 7, 3) := dk_153 0 7 (dk_at dksX6_wants_4 0 rfl rfl)
theorem dX6_wants_96 : decode cX6_wants 96 = .ok (.iload 5, 2) := dk_21 5 (dk_at dksX6_wants_4 3 rfl rfl)
theorem dX6_wants_98 : decode cX6_wants 98 = .ok (.istore 4, 2) := dk_54 4 (dk_at dksX6_wants_4 5 rfl rfl)
theorem dX6_wants_100 : decode cX6_wants 100 = .ok (.iinc 5 1, 3) := dk_132 5 1 (dk_at dksX6_wants_4 7 rfl rfl)
theorem dX6_wants_103 : decode cX6_wants 103 = .ok (.goto (-97), 3) := dk_167 255 159 (dk_at dksX6_wants_4 10 rfl rfl)
theorem dX6_wants_106 : decode cX6_wants 106 = .ok (.iload 4, 2) := dk_21 4 (dk_at dksX6_wants_4 13 rfl rfl)
theorem dX6_wants_108 : decode cX6_wants 108 = .ok (.ireturn, 1) := dk_172 (dk_at dksX6_wants_4 15 rfl rfl)
abbrev cX6_hostRather : ByteArray := prog_19_method_85_code
def yX6_hostRather : MethodName := ⟨RX6, "hostRather", "(III)Z"⟩
def dkwX6_hostRather_2 : List UInt8 := [28, 29, 162, 0, 7, 4, 167, 0, 4, 3, 172]
abbrev dktX6_hostRather_2 : List UInt8 := dkwX6_hostRather_2 ++ []
def dkwX6_hostRather_1 : List UInt8 := [42, 27, 29, 182, 0, 61, 163, 0, 23, 42, 27, 28, 182, 0, 61, 42, 27, 29, 182, 0, 61, 160, 0, 12]
abbrev dktX6_hostRather_1 : List UInt8 := dkwX6_hostRather_1 ++ dktX6_hostRather_2
def dkwX6_hostRather_0 : List UInt8 := [42, 27, 28, 182, 0, 61, 154, 0, 5, 3, 172, 29, 2, 160, 0, 5, 4, 172, 42, 27, 28, 182, 0, 61]
abbrev dktX6_hostRather_0 : List UInt8 := dkwX6_hostRather_0 ++ dktX6_hostRather_1
theorem dksX6_hostRather_0 : cX6_hostRather.data.toList.drop 0 = dktX6_hostRather_0 := by decide +kernel
theorem dksX6_hostRather_1 : cX6_hostRather.data.toList.drop 24 = dktX6_hostRather_1 := dk_seg dksX6_hostRather_0 24 rfl rfl
theorem dksX6_hostRather_2 : cX6_hostRather.data.toList.drop 48 = dktX6_hostRather_2 := dk_seg dksX6_hostRather_1 24 rfl rfl
theorem dX6_hostRather_0 : decode cX6_hostRather 0 = .ok (.aload_n 0, 1) := dk_42 (dk_at dksX6_hostRather_0 0 rfl rfl)
theorem dX6_hostRather_1 : decode cX6_hostRather 1 = .ok (.iload_n 1, 1) := dk_27 (dk_at dksX6_hostRather_0 1 rfl rfl)
theorem dX6_hostRather_2 : decode cX6_hostRather 2 = .ok (.iload_n 2, 1) := dk_28 (dk_at dksX6_hostRather_0 2 rfl rfl)
theorem dX6_hostRather_3 : decode cX6_hostRather 3 = .ok (.invokevirtual 61, 3) := dk_182 0 61 (dk_at dksX6_hostRather_0 3 rfl rfl)
theorem dX6_hostRather_6 : decode cX6_hostRather 6 = .ok (.ifCond .ne 5, 3) := dk_154 0 5 (dk_at dksX6_hostRather_0 6 rfl rfl)
theorem dX6_hostRather_9 : decode cX6_hostRather 9 = .ok (.iconst 0, 1) := dk_3 (dk_at dksX6_hostRather_0 9 rfl rfl)
theorem dX6_hostRather_10 : decode cX6_hostRather 10 = .ok (.ireturn, 1) := dk_172 (dk_at dksX6_hostRather_0 10 rfl rfl)
theorem dX6_hostRather_11 : decode cX6_hostRather 11 = .ok (.iload_n 3, 1) := dk_29 (dk_at dksX6_hostRather_0 11 rfl rfl)
theorem dX6_hostRather_12 : decode cX6_hostRather 12 = .ok (.iconst (-1), 1) := dk_2 (dk_at dksX6_hostRather_0 12 rfl rfl)
theorem dX6_hostRather_13 : decode cX6_hostRather 13 = .ok (.if_icmp .ne 5, 3) := dk_160 0 5 (dk_at dksX6_hostRather_0 13 rfl rfl)
theorem dX6_hostRather_16 : decode cX6_hostRather 16 = .ok (.iconst 1, 1) := dk_4 (dk_at dksX6_hostRather_0 16 rfl rfl)
theorem dX6_hostRather_17 : decode cX6_hostRather 17 = .ok (.ireturn, 1) := dk_172 (dk_at dksX6_hostRather_0 17 rfl rfl)
theorem dX6_hostRather_18 : decode cX6_hostRather 18 = .ok (.aload_n 0, 1) := dk_42 (dk_at dksX6_hostRather_0 18 rfl rfl)
theorem dX6_hostRather_19 : decode cX6_hostRather 19 = .ok (.iload_n 1, 1) := dk_27 (dk_at dksX6_hostRather_0 19 rfl rfl)
theorem dX6_hostRather_20 : decode cX6_hostRather 20 = .ok (.iload_n 2, 1) := dk_28 (dk_at dksX6_hostRather_0 20 rfl rfl)
theorem dX6_hostRather_21 : decode cX6_hostRather 21 = .ok (.invokevirtual 61, 3) := dk_182 0 61 (dk_at dksX6_hostRather_0 21 rfl rfl)
theorem dX6_hostRather_24 : decode cX6_hostRather 24 = .ok (.aload_n 0, 1) := dk_42 (dk_at dksX6_hostRather_1 0 rfl rfl)
theorem dX6_hostRather_25 : decode cX6_hostRather 25 = .ok (.iload_n 1, 1) := dk_27 (dk_at dksX6_hostRather_1 1 rfl rfl)
theorem dX6_hostRather_26 : decode cX6_hostRather 26 = .ok (.iload_n 3, 1) := dk_29 (dk_at dksX6_hostRather_1 2 rfl rfl)
theorem dX6_hostRather_27 : decode cX6_hostRather 27 = .ok (.invokevirtual 61, 3) := dk_182 0 61 (dk_at dksX6_hostRather_1 3 rfl rfl)
theorem dX6_hostRather_30 : decode cX6_hostRather 30 = .ok (.if_icmp .gt 23, 3) := dk_163 0 23 (dk_at dksX6_hostRather_1 6 rfl rfl)
theorem dX6_hostRather_33 : decode cX6_hostRather 33 = .ok (.aload_n 0, 1) := dk_42 (dk_at dksX6_hostRather_1 9 rfl rfl)
theorem dX6_hostRather_34 : decode cX6_hostRather 34 = .ok (.iload_n 1, 1) := dk_27 (dk_at dksX6_hostRather_1 10 rfl rfl)
theorem dX6_hostRather_35 : decode cX6_hostRather 35 = .ok (.iload_n 2, 1) := dk_28 (dk_at dksX6_hostRather_1 11 rfl rfl)
theorem dX6_hostRather_36 : decode cX6_hostRather 36 = .ok (.invokevirtual 61, 3) := dk_182 0 61 (dk_at dksX6_hostRather_1 12 rfl rfl)
theorem dX6_hostRather_39 : decode cX6_hostRather 39 = .ok (.aload_n 0, 1) := dk_42 (dk_at dksX6_hostRather_1 15 rfl rfl)
theorem dX6_hostRather_40 : decode cX6_hostRather 40 = .ok (.iload_n 1, 1) := dk_27 (dk_at dksX6_hostRather_1 16 rfl rfl)
theorem dX6_hostRather_41 : decode cX6_hostRather 41 = .ok (.iload_n 3, 1) := dk_29 (dk_at dksX6_hostRather_1 17 rfl rfl)
theorem dX6_hostRather_42 : decode cX6_hostRather 42 = .ok (.invokevirtual 61, 3) := dk_182 0 61 (dk_at dksX6_hostRather_1 18 rfl rfl)
theorem dX6_hostRather_45 : decode cX6_hostRather 45 = .ok (.if_icmp .ne 12, 3) := dk_160 0 12 (dk_at dksX6_hostRather_1 21 rfl rfl)
theorem dX6_hostRather_48 : decode cX6_hostRather 48 = .ok (.iload_n 2, 1) := dk_28 (dk_at dksX6_hostRather_2 0 rfl rfl)
theorem dX6_hostRather_49 : decode cX6_hostRather 49 = .ok (.iload_n 3, 1) := dk_29 (dk_at dksX6_hostRather_2 1 rfl rfl)
theorem dX6_hostRather_50 : decode cX6_hostRather 50 = .ok (.if_icmp .ge 7, 3) := dk_162 0 7 (dk_at dksX6_hostRather_2 2 rfl rfl)
theorem dX6_hostRather_53 : decode cX6_hostRather 53 = .ok (.iconst 1, 1) := dk_4 (dk_at dksX6_hostRather_2 5 rfl rfl)
theorem dX6_hostRather_54 : decode cX6_hostRather 54 = .ok (.goto 4, 3) := dk_167 0 4 (dk_at dksX6_hostRather_2 6 rfl rfl)
theorem dX6_hostRather_57 : decode cX6_hostRather 57 = .ok (.iconst 0, 1) := dk_3 (dk_at dksX6_hostRather_2 9 rfl rfl)
theorem dX6_hostRather_58 : decode cX6_hostRather 58 = .ok (.ireturn, 1) := dk_172 (dk_at dksX6_hostRather_2 10 rfl rfl)
abbrev cX6_guestRather : ByteArray := prog_19_method_86_code
def yX6_guestRather : MethodName := ⟨RX6, "guestRather", "(III)Z"⟩
def dkwX6_guestRather_2 : List UInt8 := [28, 29, 162, 0, 7, 4, 167, 0, 4, 3, 172]
abbrev dktX6_guestRather_2 : List UInt8 := dkwX6_guestRather_2 ++ []
def dkwX6_guestRather_1 : List UInt8 := [42, 29, 27, 182, 0, 65, 163, 0, 23, 42, 28, 27, 182, 0, 65, 42, 29, 27, 182, 0, 65, 160, 0, 12]
abbrev dktX6_guestRather_1 : List UInt8 := dkwX6_guestRather_1 ++ dktX6_guestRather_2
def dkwX6_guestRather_0 : List UInt8 := [42, 28, 27, 182, 0, 65, 154, 0, 5, 3, 172, 29, 2, 160, 0, 5, 4, 172, 42, 28, 27, 182, 0, 65]
abbrev dktX6_guestRather_0 : List UInt8 := dkwX6_guestRather_0 ++ dktX6_guestRather_1
theorem dksX6_guestRather_0 : cX6_guestRather.data.toList.drop 0 = dktX6_guestRather_0 := by decide +kernel
theorem dksX6_guestRather_1 : cX6_guestRather.data.toList.drop 24 = dktX6_guestRather_1 := dk_seg dksX6_guestRather_0 24 rfl rfl
theorem dksX6_guestRather_2 : cX6_guestRather.data.toList.drop 48 = dktX6_guestRather_2 := dk_seg dksX6_guestRather_1 24 rfl rfl
theorem dX6_guestRather_0 : decode cX6_guestRather 0 = .ok (.aload_n 0, 1) := dk_42 (dk_at dksX6_guestRather_0 0 rfl rfl)
theorem dX6_guestRather_1 : decode cX6_guestRather 1 = .ok (.iload_n 2, 1) := dk_28 (dk_at dksX6_guestRather_0 1 rfl rfl)
theorem dX6_guestRather_2 : decode cX6_guestRather 2 = .ok (.iload_n 1, 1) := dk_27 (dk_at dksX6_guestRather_0 2 rfl rfl)
theorem dX6_guestRather_3 : decode cX6_guestRather 3 = .ok (.invokevirtual 65, 3) := dk_182 0 65 (dk_at dksX6_guestRather_0 3 rfl rfl)
theorem dX6_guestRather_6 : decode cX6_guestRather 6 = .ok (.ifCond .ne 5, 3) := dk_154 0 5 (dk_at dksX6_guestRather_0 6 rfl rfl)
theorem dX6_guestRather_9 : decode cX6_guestRather 9 = .ok (.iconst 0, 1) := dk_3 (dk_at dksX6_guestRather_0 9 rfl rfl)
theorem dX6_guestRather_10 : decode cX6_guestRather 10 = .ok (.ireturn, 1) := dk_172 (dk_at dksX6_guestRather_0 10 rfl rfl)
theorem dX6_guestRather_11 : decode cX6_guestRather 11 = .ok (.iload_n 3, 1) := dk_29 (dk_at dksX6_guestRather_0 11 rfl rfl)
theorem dX6_guestRather_12 : decode cX6_guestRather 12 = .ok (.iconst (-1), 1) := dk_2 (dk_at dksX6_guestRather_0 12 rfl rfl)
theorem dX6_guestRather_13 : decode cX6_guestRather 13 = .ok (.if_icmp .ne 5, 3) := dk_160 0 5 (dk_at dksX6_guestRather_0 13 rfl rfl)
theorem dX6_guestRather_16 : decode cX6_guestRather 16 = .ok (.iconst 1, 1) := dk_4 (dk_at dksX6_guestRather_0 16 rfl rfl)
theorem dX6_guestRather_17 : decode cX6_guestRather 17 = .ok (.ireturn, 1) := dk_172 (dk_at dksX6_guestRather_0 17 rfl rfl)
theorem dX6_guestRather_18 : decode cX6_guestRather 18 = .ok (.aload_n 0, 1) := dk_42 (dk_at dksX6_guestRather_0 18 rfl rfl)
theorem dX6_guestRather_19 : decode cX6_guestRather 19 = .ok (.iload_n 2, 1) := dk_28 (dk_at dksX6_guestRather_0 19 rfl rfl)
theorem dX6_guestRather_20 : decode cX6_guestRather 20 = .ok (.iload_n 1, 1) := dk_27 (dk_at dksX6_guestRather_0 20 rfl rfl)
theorem dX6_guestRather_21 : decode cX6_guestRather 21 = .ok (.invokevirtual 65, 3) := dk_182 0 65 (dk_at dksX6_guestRather_0 21 rfl rfl)
theorem dX6_guestRather_24 : decode cX6_guestRather 24 = .ok (.aload_n 0, 1) := dk_42 (dk_at dksX6_guestRather_1 0 rfl rfl)
theorem dX6_guestRather_25 : decode cX6_guestRather 25 = .ok (.iload_n 3, 1) := dk_29 (dk_at dksX6_guestRather_1 1 rfl rfl)
theorem dX6_guestRather_26 : decode cX6_guestRather 26 = .ok (.iload_n 1, 1) := dk_27 (dk_at dksX6_guestRather_1 2 rfl rfl)
theorem dX6_guestRather_27 : decode cX6_guestRather 27 = .ok (.invokevirtual 65, 3) := dk_182 0 65 (dk_at dksX6_guestRather_1 3 rfl rfl)
theorem dX6_guestRather_30 : decode cX6_guestRather 30 = .ok (.if_icmp .gt 23, 3) := dk_163 0 23 (dk_at dksX6_guestRather_1 6 rfl rfl)
theorem dX6_guestRather_33 : decode cX6_guestRather 33 = .ok (.aload_n 0, 1) := dk_42 (dk_at dksX6_guestRather_1 9 rfl rfl)
theorem dX6_guestRather_34 : decode cX6_guestRather 34 = .ok (.iload_n 2, 1) := dk_28 (dk_at dksX6_guestRather_1 10 rfl rfl)
theorem dX6_guestRather_35 : decode cX6_guestRather 35 = .ok (.iload_n 1, 1) := dk_27 (dk_at dksX6_guestRather_1 11 rfl rfl)
theorem dX6_guestRather_36 : decode cX6_guestRather 36 = .ok (.invokevirtual 65, 3) := dk_182 0 65 (dk_at dksX6_guestRather_1 12 rfl rfl)
theorem dX6_guestRather_39 : decode cX6_guestRather 39 = .ok (.aload_n 0, 1) := dk_42 (dk_at dksX6_guestRather_1 15 rfl rfl)
theorem dX6_guestRather_40 : decode cX6_guestRather 40 = .ok (.iload_n 3, 1) := dk_29 (dk_at dksX6_guestRather_1 16 rfl rfl)
theorem dX6_guestRather_41 : decode cX6_guestRather 41 = .ok (.iload_n 1, 1) := dk_27 (dk_at dksX6_guestRather_1 17 rfl rfl)
theorem dX6_guestRather_42 : decode cX6_guestRather 42 = .ok (.invokevirtual 65, 3) := dk_182 0 65 (dk_at dksX6_guestRather_1 18 rfl rfl)
theorem dX6_guestRather_45 : decode cX6_guestRather 45 = .ok (.if_icmp .ne 12, 3) := dk_160 0 12 (dk_at dksX6_guestRather_1 21 rfl rfl)
theorem dX6_guestRather_48 : decode cX6_guestRather 48 = .ok (.iload_n 2, 1) := dk_28 (dk_at dksX6_guestRather_2 0 rfl rfl)
theorem dX6_guestRather_49 : decode cX6_guestRather 49 = .ok (.iload_n 3, 1) := dk_29 (dk_at dksX6_guestRather_2 1 rfl rfl)
theorem dX6_guestRather_50 : decode cX6_guestRather 50 = .ok (.if_icmp .ge 7, 3) := dk_162 0 7 (dk_at dksX6_guestRather_2 2 rfl rfl)
theorem dX6_guestRather_53 : decode cX6_guestRather 53 = .ok (.iconst 1, 1) := dk_4 (dk_at dksX6_guestRather_2 5 rfl rfl)
theorem dX6_guestRather_54 : decode cX6_guestRather 54 = .ok (.goto 4, 3) := dk_167 0 4 (dk_at dksX6_guestRather_2 6 rfl rfl)
theorem dX6_guestRather_57 : decode cX6_guestRather 57 = .ok (.iconst 0, 1) := dk_3 (dk_at dksX6_guestRather_2 9 rfl rfl)
theorem dX6_guestRather_58 : decode cX6_guestRather 58 = .ok (.ireturn, 1) := dk_172 (dk_at dksX6_guestRather_2 10 rfl rfl)
abbrev cX6_asked : ByteArray := prog_19_method_89_code
def yX6_asked : MethodName := ⟨RX6, "asked", "(IIZ)V"⟩
def dkwX6_asked_5 : List UInt8 := [180, 0, 35, 28, 27, 79, 167, 0, 17, 42, 180, 0, 35, 27, 28, 79, 42, 180, 0, 32, 28, 27, 79, 177]
abbrev dktX6_asked_5 : List UInt8 := dkwX6_asked_5 ++ []
def dkwX6_asked_4 : List UInt8 := [79, 167, 0, 11, 42, 180, 0, 35, 21, 4, 2, 79, 29, 153, 0, 20, 42, 180, 0, 32, 27, 28, 79, 42]
abbrev dktX6_asked_4 : List UInt8 := dkwX6_asked_4 ++ dktX6_asked_5
def dkwX6_asked_3 : List UInt8 := [42, 180, 0, 38, 21, 4, 92, 46, 4, 28, 120, 128, 79, 29, 153, 0, 14, 42, 180, 0, 32, 21, 4, 2]
abbrev dktX6_asked_3 : List UInt8 := dkwX6_asked_3 ++ dktX6_asked_4
def dkwX6_asked_2 : List UInt8 := [21, 5, 154, 0, 16, 42, 180, 0, 38, 27, 92, 46, 4, 28, 120, 128, 79, 177, 21, 4, 2, 159, 0, 39]
abbrev dktX6_asked_2 : List UInt8 := dkwX6_asked_2 ++ dktX6_asked_3
def dkwX6_asked_1 : List UInt8 := [153, 0, 14, 42, 28, 27, 21, 4, 182, 1, 106, 167, 0, 11, 42, 28, 27, 21, 4, 182, 1, 103, 54, 5]
abbrev dktX6_asked_1 : List UInt8 := dkwX6_asked_1 ++ dktX6_asked_2
def dkwX6_asked_0 : List UInt8 := [29, 153, 0, 12, 42, 180, 0, 35, 28, 46, 167, 0, 9, 42, 180, 0, 32, 28, 46, 54, 4, 29]
abbrev dktX6_asked_0 : List UInt8 := dkwX6_asked_0 ++ dktX6_asked_1
theorem dksX6_asked_0 : cX6_asked.data.toList.drop 0 = dktX6_asked_0 := by decide +kernel
theorem dksX6_asked_1 : cX6_asked.data.toList.drop 22 = dktX6_asked_1 := dk_seg dksX6_asked_0 22 rfl rfl
theorem dksX6_asked_2 : cX6_asked.data.toList.drop 46 = dktX6_asked_2 := dk_seg dksX6_asked_1 24 rfl rfl
theorem dksX6_asked_3 : cX6_asked.data.toList.drop 70 = dktX6_asked_3 := dk_seg dksX6_asked_2 24 rfl rfl
theorem dksX6_asked_4 : cX6_asked.data.toList.drop 94 = dktX6_asked_4 := dk_seg dksX6_asked_3 24 rfl rfl
theorem dksX6_asked_5 : cX6_asked.data.toList.drop 118 = dktX6_asked_5 := dk_seg dksX6_asked_4 24 rfl rfl
theorem dX6_asked_0 : decode cX6_asked 0 = .ok (.iload_n 3, 1) := dk_29 (dk_at dksX6_asked_0 0 rfl rfl)
theorem dX6_asked_1 : decode cX6_asked 1 = .ok (.ifCond .eq 12, 3) := dk_153 0 12 (dk_at dksX6_asked_0 1 rfl rfl)
theorem dX6_asked_4 : decode cX6_asked 4 = .ok (.aload_n 0, 1) := dk_42 (dk_at dksX6_asked_0 4 rfl rfl)
theorem dX6_asked_5 : decode cX6_asked 5 = .ok (.getfield 35, 3) := dk_180 0 35 (dk_at dksX6_asked_0 5 rfl rfl)
theorem dX6_asked_8 : decode cX6_asked 8 = .ok (.iload_n 2, 1) := dk_28 (dk_at dksX6_asked_0 8 rfl rfl)
theorem dX6_asked_9 : decode cX6_asked 9 = .ok (.iaload, 1) := dk_46 (dk_at dksX6_asked_0 9 rfl rfl)
theorem dX6_asked_10 : decode cX6_asked 10 = .ok (.goto 9, 3) := dk_167 0 9 (dk_at dksX6_asked_0 10 rfl rfl)
theorem dX6_asked_13 : decode cX6_asked 13 = .ok (.aload_n 0, 1) := dk_42 (dk_at dksX6_asked_0 13 rfl rfl)
theorem dX6_asked_14 : decode cX6_asked 14 = .ok (.getfield 32, 3) := dk_180 0 32 (dk_at dksX6_asked_0 14 rfl rfl)
theorem dX6_asked_17 : decode cX6_asked 17 = .ok (.iload_n 2, 1) := dk_28 (dk_at dksX6_asked_0 17 rfl rfl)
theorem dX6_asked_18 : decode cX6_asked 18 = .ok (.iaload, 1) := dk_46 (dk_at dksX6_asked_0 18 rfl rfl)
theorem dX6_asked_19 : decode cX6_asked 19 = .ok (.istore 4, 2) := dk_54 4 (dk_at dksX6_asked_0 19 rfl rfl)
theorem dX6_asked_21 : decode cX6_asked 21 = .ok (.iload_n 3, 1) := dk_29 (dk_at dksX6_asked_0 21 rfl rfl)
theorem dX6_asked_22 : decode cX6_asked 22 = .ok (.ifCond .eq 14, 3) := dk_153 0 14 (dk_at dksX6_asked_1 0 rfl rfl)
theorem dX6_asked_25 : decode cX6_asked 25 = .ok (.aload_n 0, 1) := dk_42 (dk_at dksX6_asked_1 3 rfl rfl)
theorem dX6_asked_26 : decode cX6_asked 26 = .ok (.iload_n 2, 1) := dk_28 (dk_at dksX6_asked_1 4 rfl rfl)
theorem dX6_asked_27 : decode cX6_asked 27 = .ok (.iload_n 1, 1) := dk_27 (dk_at dksX6_asked_1 5 rfl rfl)
theorem dX6_asked_28 : decode cX6_asked 28 = .ok (.iload 4, 2) := dk_21 4 (dk_at dksX6_asked_1 6 rfl rfl)
theorem dX6_asked_30 : decode cX6_asked 30 = .ok (.invokevirtual 362, 3) := dk_182 1 106 (dk_at dksX6_asked_1 8 rfl rfl)
theorem dX6_asked_33 : decode cX6_asked 33 = .ok (.goto 11, 3) := dk_167 0 11 (dk_at dksX6_asked_1 11 rfl rfl)
theorem dX6_asked_36 : decode cX6_asked 36 = .ok (.aload_n 0, 1) := dk_42 (dk_at dksX6_asked_1 14 rfl rfl)
theorem dX6_asked_37 : decode cX6_asked 37 = .ok (.iload_n 2, 1) := dk_28 (dk_at dksX6_asked_1 15 rfl rfl)
theorem dX6_asked_38 : decode cX6_asked 38 = .ok (.iload_n 1, 1) := dk_27 (dk_at dksX6_asked_1 16 rfl rfl)
theorem dX6_asked_39 : decode cX6_asked 39 = .ok (.iload 4, 2) := dk_21 4 (dk_at dksX6_asked_1 17 rfl rfl)
theorem dX6_asked_41 : decode cX6_asked 41 = .ok (.invokevirtual 359, 3) := dk_182 1 103 (dk_at dksX6_asked_1 19 rfl rfl)
theorem dX6_asked_44 : decode cX6_asked 44 = .ok (.istore 5, 2) := dk_54 5 (dk_at dksX6_asked_1 22 rfl rfl)
theorem dX6_asked_46 : decode cX6_asked 46 = .ok (.iload 5, 2) := dk_21 5 (dk_at dksX6_asked_2 0 rfl rfl)
theorem dX6_asked_48 : decode cX6_asked 48 = .ok (.ifCond .ne 16, 3) := dk_154 0 16 (dk_at dksX6_asked_2 2 rfl rfl)
theorem dX6_asked_51 : decode cX6_asked 51 = .ok (.aload_n 0, 1) := dk_42 (dk_at dksX6_asked_2 5 rfl rfl)
theorem dX6_asked_52 : decode cX6_asked 52 = .ok (.getfield 38, 3) := dk_180 0 38 (dk_at dksX6_asked_2 6 rfl rfl)
theorem dX6_asked_55 : decode cX6_asked 55 = .ok (.iload_n 1, 1) := dk_27 (dk_at dksX6_asked_2 9 rfl rfl)
theorem dX6_asked_56 : decode cX6_asked 56 = .ok (.dup2, 1) := dk_92 (dk_at dksX6_asked_2 10 rfl rfl)
theorem dX6_asked_57 : decode cX6_asked 57 = .ok (.iaload, 1) := dk_46 (dk_at dksX6_asked_2 11 rfl rfl)
theorem dX6_asked_58 : decode cX6_asked 58 = .ok (.iconst 1, 1) := dk_4 (dk_at dksX6_asked_2 12 rfl rfl)
theorem dX6_asked_59 : decode cX6_asked 59 = .ok (.iload_n 2, 1) := dk_28 (dk_at dksX6_asked_2 13 rfl rfl)
theorem dX6_asked_60 : decode cX6_asked 60 = .ok (.ishl, 1) := dk_120 (dk_at dksX6_asked_2 14 rfl rfl)
theorem dX6_asked_61 : decode cX6_asked 61 = .ok (.ior, 1) := dk_128 (dk_at dksX6_asked_2 15 rfl rfl)
theorem dX6_asked_62 : decode cX6_asked 62 = .ok (.iastore, 1) := dk_79 (dk_at dksX6_asked_2 16 rfl rfl)
theorem dX6_asked_63 : decode cX6_asked 63 = .ok (.return_, 1) := dk_177 (dk_at dksX6_asked_2 17 rfl rfl)
theorem dX6_asked_64 : decode cX6_asked 64 = .ok (.iload 4, 2) := dk_21 4 (dk_at dksX6_asked_2 18 rfl rfl)
theorem dX6_asked_66 : decode cX6_asked 66 = .ok (.iconst (-1), 1) := dk_2 (dk_at dksX6_asked_2 20 rfl rfl)
theorem dX6_asked_67 : decode cX6_asked 67 = .ok (.if_icmp .eq 39, 3) := dk_159 0 39 (dk_at dksX6_asked_2 21 rfl rfl)
theorem dX6_asked_70 : decode cX6_asked 70 = .ok (.aload_n 0, 1) := dk_42 (dk_at dksX6_asked_3 0 rfl rfl)
theorem dX6_asked_71 : decode cX6_asked 71 = .ok (.getfield 38, 3) := dk_180 0 38 (dk_at dksX6_asked_3 1 rfl rfl)
theorem dX6_asked_74 : decode cX6_asked 74 = .ok (.iload 4, 2) := dk_21 4 (dk_at dksX6_asked_3 4 rfl rfl)
theorem dX6_asked_76 : decode cX6_asked 76 = .ok (.dup2, 1) := dk_92 (dk_at dksX6_asked_3 6 rfl rfl)
theorem dX6_asked_77 : decode cX6_asked 77 = .ok (.iaload, 1) := dk_46 (dk_at dksX6_asked_3 7 rfl rfl)
theorem dX6_asked_78 : decode cX6_asked 78 = .ok (.iconst 1, 1) := dk_4 (dk_at dksX6_asked_3 8 rfl rfl)
theorem dX6_asked_79 : decode cX6_asked 79 = .ok (.iload_n 2, 1) := dk_28 (dk_at dksX6_asked_3 9 rfl rfl)
theorem dX6_asked_80 : decode cX6_asked 80 = .ok (.ishl, 1) := dk_120 (dk_at dksX6_asked_3 10 rfl rfl)
theorem dX6_asked_81 : decode cX6_asked 81 = .ok (.ior, 1) := dk_128 (dk_at dksX6_asked_3 11 rfl rfl)
theorem dX6_asked_82 : decode cX6_asked 82 = .ok (.iastore, 1) := dk_79 (dk_at dksX6_asked_3 12 rfl rfl)
theorem dX6_asked_83 : decode cX6_asked 83 = .ok (.iload_n 3, 1) := dk_29 (dk_at dksX6_asked_3 13 rfl rfl)
theorem dX6_asked_84 : decode cX6_asked 84 = .ok (.ifCond .eq 14, 3) := dk_153 0 14 (dk_at dksX6_asked_3 14 rfl rfl)
theorem dX6_asked_87 : decode cX6_asked 87 = .ok (.aload_n 0, 1) := dk_42 (dk_at dksX6_asked_3 17 rfl rfl)
theorem dX6_asked_88 : decode cX6_asked 88 = .ok (.getfield 32, 3) := dk_180 0 32 (dk_at dksX6_asked_3 18 rfl rfl)
theorem dX6_asked_91 : decode cX6_asked 91 = .ok (.iload 4, 2) := dk_21 4 (dk_at dksX6_asked_3 21 rfl rfl)
theorem dX6_asked_93 : decode cX6_asked 93 = .ok (.iconst (-1), 1) := dk_2 (dk_at dksX6_asked_3 23 rfl rfl)
theorem dX6_asked_94 : decode cX6_asked 94 = .ok (.iastore, 1) := dk_79 (dk_at dksX6_asked_4 0 rfl rfl)
theorem dX6_asked_95 : decode cX6_asked 95 = .ok (.goto 11, 3) := dk_167 0 11 (dk_at dksX6_asked_4 1 rfl rfl)
theorem dX6_asked_98 : decode cX6_asked 98 = .ok (.aload_n 0, 1) := dk_42 (dk_at dksX6_asked_4 4 rfl rfl)
theorem dX6_asked_99 : decode cX6_asked 99 = .ok (.getfield 35, 3) := dk_180 0 35 (dk_at dksX6_asked_4 5 rfl rfl)
theorem dX6_asked_102 : decode cX6_asked 102 = .ok (.iload 4, 2) := dk_21 4 (dk_at dksX6_asked_4 8 rfl rfl)
theorem dX6_asked_104 : decode cX6_asked 104 = .ok (.iconst (-1), 1) := dk_2 (dk_at dksX6_asked_4 10 rfl rfl)
theorem dX6_asked_105 : decode cX6_asked 105 = .ok (.iastore, 1) := dk_79 (dk_at dksX6_asked_4 11 rfl rfl)
theorem dX6_asked_106 : decode cX6_asked 106 = .ok (.iload_n 3, 1) := dk_29 (dk_at dksX6_asked_4 12 rfl rfl)
theorem dX6_asked_107 : decode cX6_asked 107 = .ok (.ifCond .eq 20, 3) := dk_153 0 20 (dk_at dksX6_asked_4 13 rfl rfl)
theorem dX6_asked_110 : decode cX6_asked 110 = .ok (.aload_n 0, 1) := dk_42 (dk_at dksX6_asked_4 16 rfl rfl)
theorem dX6_asked_111 : decode cX6_asked 111 = .ok (.getfield 32, 3) := dk_180 0 32 (dk_at dksX6_asked_4 17 rfl rfl)
theorem dX6_asked_114 : decode cX6_asked 114 = .ok (.iload_n 1, 1) := dk_27 (dk_at dksX6_asked_4 20 rfl rfl)
theorem dX6_asked_115 : decode cX6_asked 115 = .ok (.iload_n 2, 1) := dk_28 (dk_at dksX6_asked_4 21 rfl rfl)
theorem dX6_asked_116 : decode cX6_asked 116 = .ok (.iastore, 1) := dk_79 (dk_at dksX6_asked_4 22 rfl rfl)
theorem dX6_asked_117 : decode cX6_asked 117 = .ok (.aload_n 0, 1) := dk_42 (dk_at dksX6_asked_4 23 rfl rfl)
theorem dX6_asked_118 : decode cX6_asked 118 = .ok (.getfield 35, 3) := dk_180 0 35 (dk_at dksX6_asked_5 0 rfl rfl)
theorem dX6_asked_121 : decode cX6_asked 121 = .ok (.iload_n 2, 1) := dk_28 (dk_at dksX6_asked_5 3 rfl rfl)
theorem dX6_asked_122 : decode cX6_asked 122 = .ok (.iload_n 1, 1) := dk_27 (dk_at dksX6_asked_5 4 rfl rfl)
theorem dX6_asked_123 : decode cX6_asked 123 = .ok (.iastore, 1) := dk_79 (dk_at dksX6_asked_5 5 rfl rfl)
theorem dX6_asked_124 : decode cX6_asked 124 = .ok (.goto 17, 3) := dk_167 0 17 (dk_at dksX6_asked_5 6 rfl rfl)
theorem dX6_asked_127 : decode cX6_asked 127 = .ok (.aload_n 0, 1) := dk_42 (dk_at dksX6_asked_5 9 rfl rfl)
theorem dX6_asked_128 : decode cX6_asked 128 = .ok (.getfield 35, 3) := dk_180 0 35 (dk_at dksX6_asked_5 10 rfl rfl)
theorem dX6_asked_131 : decode cX6_asked 131 = .ok (.iload_n 1, 1) := dk_27 (dk_at dksX6_asked_5 13 rfl rfl)
theorem dX6_asked_132 : decode cX6_asked 132 = .ok (.iload_n 2, 1) := dk_28 (dk_at dksX6_asked_5 14 rfl rfl)
theorem dX6_asked_133 : decode cX6_asked 133 = .ok (.iastore, 1) := dk_79 (dk_at dksX6_asked_5 15 rfl rfl)
theorem dX6_asked_134 : decode cX6_asked 134 = .ok (.aload_n 0, 1) := dk_42 (dk_at dksX6_asked_5 16 rfl rfl)
theorem dX6_asked_135 : decode cX6_asked 135 = .ok (.getfield 32, 3) := dk_180 0 32 (dk_at dksX6_asked_5 17 rfl rfl)
theorem dX6_asked_138 : decode cX6_asked 138 = .ok (.iload_n 2, 1) := dk_28 (dk_at dksX6_asked_5 20 rfl rfl)
theorem dX6_asked_139 : decode cX6_asked 139 = .ok (.iload_n 1, 1) := dk_27 (dk_at dksX6_asked_5 21 rfl rfl)
theorem dX6_asked_140 : decode cX6_asked 140 = .ok (.iastore, 1) := dk_79 (dk_at dksX6_asked_5 22 rfl rfl)
theorem dX6_asked_141 : decode cX6_asked 141 = .ok (.return_, 1) := dk_177 (dk_at dksX6_asked_5 23 rfl rfl)
abbrev cX6_guestBest : ByteArray := prog_19_method_91_code
def yX6_guestBest : MethodName := ⟨RX6, "guestBest", "(I)I"⟩
def dkwX6_guestBest_1 : List UInt8 := [3, 172, 42, 3, 182, 1, 109, 42, 180, 0, 32, 27, 46, 172]
abbrev dktX6_guestBest_1 : List UInt8 := dkwX6_guestBest_1 ++ []
def dkwX6_guestBest_0 : List UInt8 := [42, 42, 27, 182, 1, 54, 154, 0, 7, 4, 167, 0, 4, 3, 181, 0, 54, 42, 180, 0, 54, 158, 0, 5]
abbrev dktX6_guestBest_0 : List UInt8 := dkwX6_guestBest_0 ++ dktX6_guestBest_1
theorem dksX6_guestBest_0 : cX6_guestBest.data.toList.drop 0 = dktX6_guestBest_0 := by decide +kernel
theorem dksX6_guestBest_1 : cX6_guestBest.data.toList.drop 24 = dktX6_guestBest_1 := dk_seg dksX6_guestBest_0 24 rfl rfl
theorem dX6_guestBest_0 : decode cX6_guestBest 0 = .ok (.aload_n 0, 1) := dk_42 (dk_at dksX6_guestBest_0 0 rfl rfl)
theorem dX6_guestBest_1 : decode cX6_guestBest 1 = .ok (.aload_n 0, 1) := dk_42 (dk_at dksX6_guestBest_0 1 rfl rfl)
theorem dX6_guestBest_2 : decode cX6_guestBest 2 = .ok (.iload_n 1, 1) := dk_27 (dk_at dksX6_guestBest_0 2 rfl rfl)
theorem dX6_guestBest_3 : decode cX6_guestBest 3 = .ok (.invokevirtual 310, 3) := dk_182 1 54 (dk_at dksX6_guestBest_0 3 rfl rfl)
theorem dX6_guestBest_6 : decode cX6_guestBest 6 = .ok (.ifCond .ne 7, 3) := dk_154 0 7 (dk_at dksX6_guestBest_0 6 rfl rfl)
theorem dX6_guestBest_9 : decode cX6_guestBest 9 = .ok (.iconst 1, 1) := dk_4 (dk_at dksX6_guestBest_0 9 rfl rfl)
theorem dX6_guestBest_10 : decode cX6_guestBest 10 = .ok (.goto 4, 3) := dk_167 0 4 (dk_at dksX6_guestBest_0 10 rfl rfl)
theorem dX6_guestBest_13 : decode cX6_guestBest 13 = .ok (.iconst 0, 1) := dk_3 (dk_at dksX6_guestBest_0 13 rfl rfl)
theorem dX6_guestBest_14 : decode cX6_guestBest 14 = .ok (.putfield 54, 3) := dk_181 0 54 (dk_at dksX6_guestBest_0 14 rfl rfl)
theorem dX6_guestBest_17 : decode cX6_guestBest 17 = .ok (.aload_n 0, 1) := dk_42 (dk_at dksX6_guestBest_0 17 rfl rfl)
theorem dX6_guestBest_18 : decode cX6_guestBest 18 = .ok (.getfield 54, 3) := dk_180 0 54 (dk_at dksX6_guestBest_0 18 rfl rfl)
theorem dX6_guestBest_21 : decode cX6_guestBest 21 = .ok (.ifCond .le 5, 3) := dk_158 0 5 (dk_at dksX6_guestBest_0 21 rfl rfl)
theorem dX6_guestBest_24 : decode cX6_guestBest 24 = .ok (.iconst 0, 1) := dk_3 (dk_at dksX6_guestBest_1 0 rfl rfl)
theorem dX6_guestBest_25 : decode cX6_guestBest 25 = .ok (.ireturn, 1) := dk_172 (dk_at dksX6_guestBest_1 1 rfl rfl)
theorem dX6_guestBest_26 : decode cX6_guestBest 26 = .ok (.aload_n 0, 1) := dk_42 (dk_at dksX6_guestBest_1 2 rfl rfl)
theorem dX6_guestBest_27 : decode cX6_guestBest 27 = .ok (.iconst 0, 1) := dk_3 (dk_at dksX6_guestBest_1 3 rfl rfl)
theorem dX6_guestBest_28 : decode cX6_guestBest 28 = .ok (.invokevirtual 365, 3) := dk_182 1 109 (dk_at dksX6_guestBest_1 4 rfl rfl)
theorem dX6_guestBest_31 : decode cX6_guestBest 31 = .ok (.aload_n 0, 1) := dk_42 (dk_at dksX6_guestBest_1 7 rfl rfl)
theorem dX6_guestBest_32 : decode cX6_guestBest 32 = .ok (.getfield 32, 3) := dk_180 0 32 (dk_at dksX6_guestBest_1 8 rfl rfl)
theorem dX6_guestBest_35 : decode cX6_guestBest 35 = .ok (.iload_n 1, 1) := dk_27 (dk_at dksX6_guestBest_1 11 rfl rfl)
theorem dX6_guestBest_36 : decode cX6_guestBest 36 = .ok (.iaload, 1) := dk_46 (dk_at dksX6_guestBest_1 12 rfl rfl)
theorem dX6_guestBest_37 : decode cX6_guestBest 37 = .ok (.ireturn, 1) := dk_172 (dk_at dksX6_guestBest_1 13 rfl rfl)
abbrev cX6_ways : ByteArray := prog_19_method_94_code
def yX6_ways : MethodName := ⟨RX6, "ways", "()I"⟩
def dkwX6_ways_4 : List UInt8 := [28, 182, 1, 113, 153, 0, 7, 4, 167, 0, 4, 3, 96, 54, 4, 132, 5, 1, 167, 255, 226, 21, 4, 172]
abbrev dktX6_ways_4 : List UInt8 := dkwX6_ways_4 ++ []
def dkwX6_ways_3 : List UInt8 := [132, 4, 1, 167, 255, 202, 3, 54, 4, 3, 54, 5, 21, 5, 29, 162, 0, 30, 21, 4, 42, 21, 5, 27]
abbrev dktX6_ways_3 : List UInt8 := dkwX6_ways_3 ++ dktX6_ways_4
def dkwX6_ways_2 : List UInt8 := [21, 4, 120, 128, 60, 28, 4, 42, 180, 0, 32, 21, 4, 46, 120, 128, 61, 29, 27, 184, 1, 47, 104, 62]
abbrev dktX6_ways_2 : List UInt8 := dkwX6_ways_2 ++ dktX6_ways_3
def dkwX6_ways_1 : List UInt8 := [180, 0, 7, 6, 46, 162, 0, 49, 42, 180, 0, 32, 21, 4, 46, 2, 160, 0, 6, 167, 0, 29, 27, 4]
abbrev dktX6_ways_1 : List UInt8 := dkwX6_ways_1 ++ dktX6_ways_2
def dkwX6_ways_0 : List UInt8 := [42, 3, 181, 0, 54, 42, 4, 182, 1, 109, 3, 60, 3, 61, 4, 62, 3, 54, 4, 21, 4, 42]
abbrev dktX6_ways_0 : List UInt8 := dkwX6_ways_0 ++ dktX6_ways_1
theorem dksX6_ways_0 : cX6_ways.data.toList.drop 0 = dktX6_ways_0 := by decide +kernel
theorem dksX6_ways_1 : cX6_ways.data.toList.drop 22 = dktX6_ways_1 := dk_seg dksX6_ways_0 22 rfl rfl
theorem dksX6_ways_2 : cX6_ways.data.toList.drop 46 = dktX6_ways_2 := dk_seg dksX6_ways_1 24 rfl rfl
theorem dksX6_ways_3 : cX6_ways.data.toList.drop 70 = dktX6_ways_3 := dk_seg dksX6_ways_2 24 rfl rfl
theorem dksX6_ways_4 : cX6_ways.data.toList.drop 94 = dktX6_ways_4 := dk_seg dksX6_ways_3 24 rfl rfl
theorem dX6_ways_0 : decode cX6_ways 0 = .ok (.aload_n 0, 1) := dk_42 (dk_at dksX6_ways_0 0 rfl rfl)
theorem dX6_ways_1 : decode cX6_ways 1 = .ok (.iconst 0, 1) := dk_3 (dk_at dksX6_ways_0 1 rfl rfl)
theorem dX6_ways_2 : decode cX6_ways 2 = .ok (.putfield 54, 3) := dk_181 0 54 (dk_at dksX6_ways_0 2 rfl rfl)
theorem dX6_ways_5 : decode cX6_ways 5 = .ok (.aload_n 0, 1) := dk_42 (dk_at dksX6_ways_0 5 rfl rfl)
theorem dX6_ways_6 : decode cX6_ways 6 = .ok (.iconst 1, 1) := dk_4 (dk_at dksX6_ways_0 6 rfl rfl)
theorem dX6_ways_7 : decode cX6_ways 7 = .ok (.invokevirtual 365, 3) := dk_182 1 109 (dk_at dksX6_ways_0 7 rfl rfl)
theorem dX6_ways_10 : decode cX6_ways 10 = .ok (.iconst 0, 1) := dk_3 (dk_at dksX6_ways_0 10 rfl rfl)
theorem dX6_ways_11 : decode cX6_ways 11 = .ok (.istore_n 1, 1) := dk_60 (dk_at dksX6_ways_0 11 rfl rfl)
theorem dX6_ways_12 : decode cX6_ways 12 = .ok (.iconst 0, 1) := dk_3 (dk_at dksX6_ways_0 12 rfl rfl)
theorem dX6_ways_13 : decode cX6_ways 13 = .ok (.istore_n 2, 1) := dk_61 (dk_at dksX6_ways_0 13 rfl rfl)
theorem dX6_ways_14 : decode cX6_ways 14 = .ok (.iconst 1, 1) := dk_4 (dk_at dksX6_ways_0 14 rfl rfl)
theorem dX6_ways_15 : decode cX6_ways 15 = .ok (.istore_n 3, 1) := dk_62 (dk_at dksX6_ways_0 15 rfl rfl)
theorem dX6_ways_16 : decode cX6_ways 16 = .ok (.iconst 0, 1) := dk_3 (dk_at dksX6_ways_0 16 rfl rfl)
theorem dX6_ways_17 : decode cX6_ways 17 = .ok (.istore 4, 2) := dk_54 4 (dk_at dksX6_ways_0 17 rfl rfl)
theorem dX6_ways_19 : decode cX6_ways 19 = .ok (.iload 4, 2) := dk_21 4 (dk_at dksX6_ways_0 19 rfl rfl)
theorem dX6_ways_21 : decode cX6_ways 21 = .ok (.aload_n 0, 1) := dk_42 (dk_at dksX6_ways_0 21 rfl rfl)
theorem dX6_ways_22 : decode cX6_ways 22 = .ok (.getfield 7, 3) := dk_180 0 7 (dk_at dksX6_ways_1 0 rfl rfl)
theorem dX6_ways_25 : decode cX6_ways 25 = .ok (.iconst 3, 1) := dk_6 (dk_at dksX6_ways_1 3 rfl rfl)
theorem dX6_ways_26 : decode cX6_ways 26 = .ok (.iaload, 1) := dk_46 (dk_at dksX6_ways_1 4 rfl rfl)
theorem dX6_ways_27 : decode cX6_ways 27 = .ok (.if_icmp .ge 49, 3) := dk_162 0 49 (dk_at dksX6_ways_1 5 rfl rfl)
theorem dX6_ways_30 : decode cX6_ways 30 = .ok (.aload_n 0, 1) := dk_42 (dk_at dksX6_ways_1 8 rfl rfl)
theorem dX6_ways_31 : decode cX6_ways 31 = .ok (.getfield 32, 3) := dk_180 0 32 (dk_at dksX6_ways_1 9 rfl rfl)
theorem dX6_ways_34 : decode cX6_ways 34 = .ok (.iload 4, 2) := dk_21 4 (dk_at dksX6_ways_1 12 rfl rfl)
theorem dX6_ways_36 : decode cX6_ways 36 = .ok (.iaload, 1) := dk_46 (dk_at dksX6_ways_1 14 rfl rfl)
theorem dX6_ways_37 : decode cX6_ways 37 = .ok (.iconst (-1), 1) := dk_2 (dk_at dksX6_ways_1 15 rfl rfl)
theorem dX6_ways_38 : decode cX6_ways 38 = .ok (.if_icmp .ne 6, 3) := dk_160 0 6 (dk_at dksX6_ways_1 16 rfl rfl)
theorem dX6_ways_41 : decode cX6_ways 41 = .ok (.goto 29, 3) := dk_167 0 29 (dk_at dksX6_ways_1 19 rfl rfl)
theorem dX6_ways_44 : decode cX6_ways 44 = .ok (.iload_n 1, 1) := dk_27 (dk_at dksX6_ways_1 22 rfl rfl)
theorem dX6_ways_45 : decode cX6_ways 45 = .ok (.iconst 1, 1) := dk_4 (dk_at dksX6_ways_1 23 rfl rfl)
theorem dX6_ways_46 : decode cX6_ways 46 = .ok (.iload 4, 2) := dk_21 4 (dk_at dksX6_ways_2 0 rfl rfl)
theorem dX6_ways_48 : decode cX6_ways 48 = .ok (.ishl, 1) := dk_120 (dk_at dksX6_ways_2 2 rfl rfl)
theorem dX6_ways_49 : decode cX6_ways 49 = .ok (.ior, 1) := dk_128 (dk_at dksX6_ways_2 3 rfl rfl)
theorem dX6_ways_50 : decode cX6_ways 50 = .ok (.istore_n 1, 1) := dk_60 (dk_at dksX6_ways_2 4 rfl rfl)
theorem dX6_ways_51 : decode cX6_ways 51 = .ok (.iload_n 2, 1) := dk_28 (dk_at dksX6_ways_2 5 rfl rfl)
theorem dX6_ways_52 : decode cX6_ways 52 = .ok (.iconst 1, 1) := dk_4 (dk_at dksX6_ways_2 6 rfl rfl)
theorem dX6_ways_53 : decode cX6_ways 53 = .ok (.aload_n 0, 1) := dk_42 (dk_at dksX6_ways_2 7 rfl rfl)
theorem dX6_ways_54 : decode cX6_ways 54 = .ok (.getfield 32, 3) := dk_180 0 32 (dk_at dksX6_ways_2 8 rfl rfl)
theorem dX6_ways_57 : decode cX6_ways 57 = .ok (.iload 4, 2) := dk_21 4 (dk_at dksX6_ways_2 11 rfl rfl)
theorem dX6_ways_59 : decode cX6_ways 59 = .ok (.iaload, 1) := dk_46 (dk_at dksX6_ways_2 13 rfl rfl)
theorem dX6_ways_60 : decode cX6_ways 60 = .ok (.ishl, 1) := dk_120 (dk_at dksX6_ways_2 14 rfl rfl)
theorem dX6_ways_61 : decode cX6_ways 61 = .ok (.ior, 1) := dk_128 (dk_at dksX6_ways_2 15 rfl rfl)
theorem dX6_ways_62 : decode cX6_ways 62 = .ok (.istore_n 2, 1) := dk_61 (dk_at dksX6_ways_2 16 rfl rfl)
theorem dX6_ways_63 : decode cX6_ways 63 = .ok (.iload_n 3, 1) := dk_29 (dk_at dksX6_ways_2 17 rfl rfl)
theorem dX6_ways_64 : decode cX6_ways 64 = .ok (.iload_n 1, 1) := dk_27 (dk_at dksX6_ways_2 18 rfl rfl)
theorem dX6_ways_65 : decode cX6_ways 65 = .ok (.invokestatic 303, 3) := dk_184 1 47 (dk_at dksX6_ways_2 19 rfl rfl)
theorem dX6_ways_68 : decode cX6_ways 68 = .ok (.imul, 1) := dk_104 (dk_at dksX6_ways_2 22 rfl rfl)
theorem dX6_ways_69 : decode cX6_ways 69 = .ok (.istore_n 3, 1) := dk_62 (dk_at dksX6_ways_2 23 rfl rfl)
theorem dX6_ways_70 : decode cX6_ways 70 = .ok (.iinc 4 1, 3) := dk_132 4 1 (dk_at dksX6_ways_3 0 rfl rfl)
theorem dX6_ways_73 : decode cX6_ways 73 = .ok (.goto (-54), 3) := dk_167 255 202 (dk_at dksX6_ways_3 3 rfl rfl)
theorem dX6_ways_76 : decode cX6_ways 76 = .ok (.iconst 0, 1) := dk_3 (dk_at dksX6_ways_3 6 rfl rfl)
theorem dX6_ways_77 : decode cX6_ways 77 = .ok (.istore 4, 2) := dk_54 4 (dk_at dksX6_ways_3 7 rfl rfl)
theorem dX6_ways_79 : decode cX6_ways 79 = .ok (.iconst 0, 1) := dk_3 (dk_at dksX6_ways_3 9 rfl rfl)
theorem dX6_ways_80 : decode cX6_ways 80 = .ok (.istore 5, 2) := dk_54 5 (dk_at dksX6_ways_3 10 rfl rfl)
theorem dX6_ways_82 : decode cX6_ways 82 = .ok (.iload 5, 2) := dk_21 5 (dk_at dksX6_ways_3 12 rfl rfl)
theorem dX6_ways_84 : decode cX6_ways 84 = .ok (.iload_n 3, 1) := dk_29 (dk_at dksX6_ways_3 14 rfl rfl)
theorem dX6_ways_85 : decode cX6_ways 85 = .ok (.if_icmp .ge 30, 3) := dk_162 0 30 (dk_at dksX6_ways_3 15 rfl rfl)
theorem dX6_ways_88 : decode cX6_ways 88 = .ok (.iload 4, 2) := dk_21 4 (dk_at dksX6_ways_3 18 rfl rfl)
theorem dX6_ways_90 : decode cX6_ways 90 = .ok (.aload_n 0, 1) := dk_42 (dk_at dksX6_ways_3 20 rfl rfl)
theorem dX6_ways_91 : decode cX6_ways 91 = .ok (.iload 5, 2) := dk_21 5 (dk_at dksX6_ways_3 21 rfl rfl)
theorem dX6_ways_93 : decode cX6_ways 93 = .ok (.iload_n 1, 1) := dk_27 (dk_at dksX6_ways_3 23 rfl rfl)
theorem dX6_ways_94 : decode cX6_ways 94 = .ok (.iload_n 2, 1) := dk_28 (dk_at dksX6_ways_4 0 rfl rfl)
theorem dX6_ways_95 : decode cX6_ways 95 = .ok (.invokevirtual 369, 3) := dk_182 1 113 (dk_at dksX6_ways_4 1 rfl rfl)
theorem dX6_ways_98 : decode cX6_ways 98 = .ok (.ifCond .eq 7, 3) := dk_153 0 7 (dk_at dksX6_ways_4 4 rfl rfl)
theorem dX6_ways_101 : decode cX6_ways 101 = .ok (.iconst 1, 1) := dk_4 (dk_at dksX6_ways_4 7 rfl rfl)
theorem dX6_ways_102 : decode cX6_ways 102 = .ok (.goto 4, 3) := dk_167 0 4 (dk_at dksX6_ways_4 8 rfl rfl)
theorem dX6_ways_105 : decode cX6_ways 105 = .ok (.iconst 0, 1) := dk_3 (dk_at dksX6_ways_4 11 rfl rfl)
theorem dX6_ways_106 : decode cX6_ways 106 = .ok (.iadd, 1) := dk_96 (dk_at dksX6_ways_4 12 rfl rfl)
theorem dX6_ways_107 : decode cX6_ways 107 = .ok (.istore 4, 2) := dk_54 4 (dk_at dksX6_ways_4 13 rfl rfl)
theorem dX6_ways_109 : decode cX6_ways 109 = .ok (.iinc 5 1, 3) := dk_132 5 1 (dk_at dksX6_ways_4 15 rfl rfl)
theorem dX6_ways_112 : decode cX6_ways 112 = .ok (.goto (-30), 3) := dk_167 255 226 (dk_at dksX6_ways_4 18 rfl rfl)
theorem dX6_ways_115 : decode cX6_ways 115 = .ok (.iload 4, 2) := dk_21 4 (dk_at dksX6_ways_4 21 rfl rfl)
theorem dX6_ways_117 : decode cX6_ways 117 = .ok (.ireturn, 1) := dk_172 (dk_at dksX6_ways_4 23 rfl rfl)
abbrev cX6_isWay : ByteArray := prog_19_method_95_code
def yX6_isWay : MethodName := ⟨RX6, "isWay", "(III)Z"⟩
def dkwX6_isWay_5 : List UInt8 := [42, 182, 1, 119, 154, 0, 7, 4, 167, 0, 4, 3, 172]
abbrev dktX6_isWay_5 : List UInt8 := dkwX6_isWay_5 ++ []
def dkwX6_isWay_4 : List UInt8 := [21, 8, 79, 42, 21, 8, 21, 9, 182, 0, 78, 54, 7, 132, 8, 1, 167, 255, 164, 21, 7, 153, 0, 14]
abbrev dktX6_isWay_4 : List UInt8 := dkwX6_isWay_4 ++ dktX6_isWay_5
def dkwX6_isWay_3 : List UInt8 := [21, 9, 120, 2, 130, 126, 54, 5, 42, 180, 0, 32, 21, 8, 21, 9, 79, 42, 180, 0, 35, 21, 9]
abbrev dktX6_isWay_3 : List UInt8 := dkwX6_isWay_3 ++ dktX6_isWay_4
def dkwX6_isWay_2 : List UInt8 := [21, 4, 21, 6, 112, 184, 1, 116, 54, 9, 21, 4, 21, 6, 108, 54, 4, 132, 6, 255, 21, 5, 4]
abbrev dktX6_isWay_2 : List UInt8 := dkwX6_isWay_2 ++ dktX6_isWay_3
def dkwX6_isWay_1 : List UInt8 := [6, 46, 162, 0, 87, 21, 7, 153, 0, 82, 28, 21, 8, 184, 0, 74, 154, 0, 6, 167, 0, 64, 21, 5]
abbrev dktX6_isWay_1 : List UInt8 := dkwX6_isWay_1 ++ dktX6_isWay_2
def dkwX6_isWay_0 : List UInt8 := [27, 54, 4, 29, 54, 5, 28, 184, 1, 47, 54, 6, 4, 54, 7, 3, 54, 8, 21, 8, 42, 180, 0, 7]
abbrev dktX6_isWay_0 : List UInt8 := dkwX6_isWay_0 ++ dktX6_isWay_1
theorem dksX6_isWay_0 : cX6_isWay.data.toList.drop 0 = dktX6_isWay_0 := by decide +kernel
theorem dksX6_isWay_1 : cX6_isWay.data.toList.drop 24 = dktX6_isWay_1 := dk_seg dksX6_isWay_0 24 rfl rfl
theorem dksX6_isWay_2 : cX6_isWay.data.toList.drop 48 = dktX6_isWay_2 := dk_seg dksX6_isWay_1 24 rfl rfl
theorem dksX6_isWay_3 : cX6_isWay.data.toList.drop 71 = dktX6_isWay_3 := dk_seg dksX6_isWay_2 23 rfl rfl
theorem dksX6_isWay_4 : cX6_isWay.data.toList.drop 94 = dktX6_isWay_4 := dk_seg dksX6_isWay_3 23 rfl rfl
theorem dksX6_isWay_5 : cX6_isWay.data.toList.drop 118 = dktX6_isWay_5 := dk_seg dksX6_isWay_4 24 rfl rfl
theorem dX6_isWay_0 : decode cX6_isWay 0 = .ok (.iload_n 1, 1) := dk_27 (dk_at dksX6_isWay_0 0 rfl rfl)
theorem dX6_isWay_1 : decode cX6_isWay 1 = .ok (.istore 4, 2) := dk_54 4 (dk_at dksX6_isWay_0 1 rfl rfl)
theorem dX6_isWay_3 : decode cX6_isWay 3 = .ok (.iload_n 3, 1) := dk_29 (dk_at dksX6_isWay_0 3 rfl rfl)
theorem dX6_isWay_4 : decode cX6_isWay 4 = .ok (.istore 5, 2) := dk_54 5 (dk_at dksX6_isWay_0 4 rfl rfl)
theorem dX6_isWay_6 : decode cX6_isWay 6 = .ok (.iload_n 2, 1) := dk_28 (dk_at dksX6_isWay_0 6 rfl rfl)
theorem dX6_isWay_7 : decode cX6_isWay 7 = .ok (.invokestatic 303, 3) := dk_184 1 47 (dk_at dksX6_isWay_0 7 rfl rfl)
theorem dX6_isWay_10 : decode cX6_isWay 10 = .ok (.istore 6, 2) := dk_54 6 (dk_at dksX6_isWay_0 10 rfl rfl)
theorem dX6_isWay_12 : decode cX6_isWay 12 = .ok (.iconst 1, 1) := dk_4 (dk_at dksX6_isWay_0 12 rfl rfl)
theorem dX6_isWay_13 : decode cX6_isWay 13 = .ok (.istore 7, 2) := dk_54 7 (dk_at dksX6_isWay_0 13 rfl rfl)
theorem dX6_isWay_15 : decode cX6_isWay 15 = .ok (.iconst 0, 1) := dk_3 (dk_at dksX6_isWay_0 15 rfl rfl)
theorem dX6_isWay_16 : decode cX6_isWay 16 = .ok (.istore 8, 2) := dk_54 8 (dk_at dksX6_isWay_0 16 rfl rfl)
theorem dX6_isWay_18 : decode cX6_isWay 18 = .ok (.iload 8, 2) := dk_21 8 (dk_at dksX6_isWay_0 18 rfl rfl)
theorem dX6_isWay_20 : decode cX6_isWay 20 = .ok (.aload_n 0, 1) := dk_42 (dk_at dksX6_isWay_0 20 rfl rfl)
theorem dX6_isWay_21 : decode cX6_isWay 21 = .ok (.getfield 7, 3) := dk_180 0 7 (dk_at dksX6_isWay_0 21 rfl rfl)
theorem dX6_isWay_24 : decode cX6_isWay 24 = .ok (.iconst 3, 1) := dk_6 (dk_at dksX6_isWay_1 0 rfl rfl)
theorem dX6_isWay_25 : decode cX6_isWay 25 = .ok (.iaload, 1) := dk_46 (dk_at dksX6_isWay_1 1 rfl rfl)
theorem dX6_isWay_26 : decode cX6_isWay 26 = .ok (.if_icmp .ge 87, 3) := dk_162 0 87 (dk_at dksX6_isWay_1 2 rfl rfl)
theorem dX6_isWay_29 : decode cX6_isWay 29 = .ok (.iload 7, 2) := dk_21 7 (dk_at dksX6_isWay_1 5 rfl rfl)
theorem dX6_isWay_31 : decode cX6_isWay 31 = .ok (.ifCond .eq 82, 3) := dk_153 0 82 (dk_at dksX6_isWay_1 7 rfl rfl)
theorem dX6_isWay_34 : decode cX6_isWay 34 = .ok (.iload_n 2, 1) := dk_28 (dk_at dksX6_isWay_1 10 rfl rfl)
theorem dX6_isWay_35 : decode cX6_isWay 35 = .ok (.iload 8, 2) := dk_21 8 (dk_at dksX6_isWay_1 11 rfl rfl)
theorem dX6_isWay_37 : decode cX6_isWay 37 = .ok (.invokestatic 74, 3) := dk_184 0 74 (dk_at dksX6_isWay_1 13 rfl rfl)
theorem dX6_isWay_40 : decode cX6_isWay 40 = .ok (.ifCond .ne 6, 3) := dk_154 0 6 (dk_at dksX6_isWay_1 16 rfl rfl)
theorem dX6_isWay_43 : decode cX6_isWay 43 = .ok (.goto 64, 3) := dk_167 0 64 (dk_at dksX6_isWay_1 19 rfl rfl)
theorem dX6_isWay_46 : decode cX6_isWay 46 = .ok (.iload 5, 2) := dk_21 5 (dk_at dksX6_isWay_1 22 rfl rfl)
theorem dX6_isWay_48 : decode cX6_isWay 48 = .ok (.iload 4, 2) := dk_21 4 (dk_at dksX6_isWay_2 0 rfl rfl)
theorem dX6_isWay_50 : decode cX6_isWay 50 = .ok (.iload 6, 2) := dk_21 6 (dk_at dksX6_isWay_2 2 rfl rfl)
theorem dX6_isWay_52 : decode cX6_isWay 52 = .ok (.irem, 1) := dk_112 (dk_at dksX6_isWay_2 4 rfl rfl)
theorem dX6_isWay_53 : decode cX6_isWay 53 = .ok (.invokestatic 372, 3) := dk_184 1 116 (dk_at dksX6_isWay_2 5 rfl rfl)
theorem dX6_isWay_56 : decode cX6_isWay 56 = .ok (.istore 9, 2) := dk_54 9 (dk_at dksX6_isWay_2 8 rfl rfl)
theorem dX6_isWay_58 : decode cX6_isWay 58 = .ok (.iload 4, 2) := dk_21 4 (dk_at dksX6_isWay_2 10 rfl rfl)
theorem dX6_isWay_60 : decode cX6_isWay 60 = .ok (.iload 6, 2) := dk_21 6 (dk_at dksX6_isWay_2 12 rfl rfl)
theorem dX6_isWay_62 : decode cX6_isWay 62 = .ok (.idiv, 1) := dk_108 (dk_at dksX6_isWay_2 14 rfl rfl)
theorem dX6_isWay_63 : decode cX6_isWay 63 = .ok (.istore 4, 2) := dk_54 4 (dk_at dksX6_isWay_2 15 rfl rfl)
theorem dX6_isWay_65 : decode cX6_isWay 65 = .ok (.iinc 6 (-1), 3) := dk_132 6 255 (dk_at dksX6_isWay_2 17 rfl rfl)
theorem dX6_isWay_68 : decode cX6_isWay 68 = .ok (.iload 5, 2) := dk_21 5 (dk_at dksX6_isWay_2 20 rfl rfl)
theorem dX6_isWay_70 : decode cX6_isWay 70 = .ok (.iconst 1, 1) := dk_4 (dk_at dksX6_isWay_2 22 rfl rfl)
theorem dX6_isWay_71 : decode cX6_isWay 71 = .ok (.iload 9, 2) := dk_21 9 (dk_at dksX6_isWay_3 0 rfl rfl)
theorem dX6_isWay_73 : decode cX6_isWay 73 = .ok (.ishl, 1) := dk_120 (dk_at dksX6_isWay_3 2 rfl rfl)
theorem dX6_isWay_74 : decode cX6_isWay 74 = .ok (.iconst (-1), 1) := dk_2 (dk_at dksX6_isWay_3 3 rfl rfl)
theorem dX6_isWay_75 : decode cX6_isWay 75 = .ok (.ixor, 1) := dk_130 (dk_at dksX6_isWay_3 4 rfl rfl)
theorem dX6_isWay_76 : decode cX6_isWay 76 = .ok (.iand, 1) := dk_126 (dk_at dksX6_isWay_3 5 rfl rfl)
theorem dX6_isWay_77 : decode cX6_isWay 77 = .ok (.istore 5, 2) := dk_54 5 (dk_at dksX6_isWay_3 6 rfl rfl)
theorem dX6_isWay_79 : decode cX6_isWay 79 = .ok (.aload_n 0, 1) := dk_42 (dk_at dksX6_isWay_3 8 rfl rfl)
theorem dX6_isWay_80 : decode cX6_isWay 80 = .ok (.getfield 32, 3) := dk_180 0 32 (dk_at dksX6_isWay_3 9 rfl rfl)
theorem dX6_isWay_83 : decode cX6_isWay 83 = .ok (.iload 8, 2) := dk_21 8 (dk_at dksX6_isWay_3 12 rfl rfl)
theorem dX6_isWay_85 : decode cX6_isWay 85 = .ok (.iload 9, 2) := dk_21 9 (dk_at dksX6_isWay_3 14 rfl rfl)
theorem dX6_isWay_87 : decode cX6_isWay 87 = .ok (.iastore, 1) := dk_79 (dk_at dksX6_isWay_3 16 rfl rfl)
theorem dX6_isWay_88 : decode cX6_isWay 88 = .ok (.aload_n 0, 1) := dk_42 (dk_at dksX6_isWay_3 17 rfl rfl)
theorem dX6_isWay_89 : decode cX6_isWay 89 = .ok (.getfield 35, 3) := dk_180 0 35 (dk_at dksX6_isWay_3 18 rfl rfl)
theorem dX6_isWay_92 : decode cX6_isWay 92 = .ok (.iload 9, 2) := dk_21 9 (dk_at dksX6_isWay_3 21 rfl rfl)
theorem dX6_isWay_94 : decode cX6_isWay 94 = .ok (.iload 8, 2) := dk_21 8 (dk_at dksX6_isWay_4 0 rfl rfl)
theorem dX6_isWay_96 : decode cX6_isWay 96 = .ok (.iastore, 1) := dk_79 (dk_at dksX6_isWay_4 2 rfl rfl)
theorem dX6_isWay_97 : decode cX6_isWay 97 = .ok (.aload_n 0, 1) := dk_42 (dk_at dksX6_isWay_4 3 rfl rfl)
theorem dX6_isWay_98 : decode cX6_isWay 98 = .ok (.iload 8, 2) := dk_21 8 (dk_at dksX6_isWay_4 4 rfl rfl)
theorem dX6_isWay_100 : decode cX6_isWay 100 = .ok (.iload 9, 2) := dk_21 9 (dk_at dksX6_isWay_4 6 rfl rfl)
theorem dX6_isWay_102 : decode cX6_isWay 102 = .ok (.invokevirtual 78, 3) := dk_182 0 78 (dk_at dksX6_isWay_4 8 rfl rfl)
theorem dX6_isWay_105 : decode cX6_isWay 105 = .ok (.istore 7, 2) := dk_54 7 (dk_at dksX6_isWay_4 11 rfl rfl)
theorem dX6_isWay_107 : decode cX6_isWay 107 = .ok (.iinc 8 1, 3) := dk_132 8 1 (dk_at dksX6_isWay_4 13 rfl rfl)
theorem dX6_isWay_110 : decode cX6_isWay 110 = .ok (.goto (-92), 3) := dk_167 255 164 (dk_at dksX6_isWay_4 16 rfl rfl)
theorem dX6_isWay_113 : decode cX6_isWay 113 = .ok (.iload 7, 2) := dk_21 7 (dk_at dksX6_isWay_4 19 rfl rfl)
theorem dX6_isWay_115 : decode cX6_isWay 115 = .ok (.ifCond .eq 14, 3) := dk_153 0 14 (dk_at dksX6_isWay_4 21 rfl rfl)
theorem dX6_isWay_118 : decode cX6_isWay 118 = .ok (.aload_n 0, 1) := dk_42 (dk_at dksX6_isWay_5 0 rfl rfl)
theorem dX6_isWay_119 : decode cX6_isWay 119 = .ok (.invokevirtual 375, 3) := dk_182 1 119 (dk_at dksX6_isWay_5 1 rfl rfl)
theorem dX6_isWay_122 : decode cX6_isWay 122 = .ok (.ifCond .ne 7, 3) := dk_154 0 7 (dk_at dksX6_isWay_5 4 rfl rfl)
theorem dX6_isWay_125 : decode cX6_isWay 125 = .ok (.iconst 1, 1) := dk_4 (dk_at dksX6_isWay_5 7 rfl rfl)
theorem dX6_isWay_126 : decode cX6_isWay 126 = .ok (.goto 4, 3) := dk_167 0 4 (dk_at dksX6_isWay_5 8 rfl rfl)
theorem dX6_isWay_129 : decode cX6_isWay 129 = .ok (.iconst 0, 1) := dk_3 (dk_at dksX6_isWay_5 11 rfl rfl)
theorem dX6_isWay_130 : decode cX6_isWay 130 = .ok (.ireturn, 1) := dk_172 (dk_at dksX6_isWay_5 12 rfl rfl)
abbrev cX6_kth : ByteArray := prog_19_method_93_code
def yX6_kth : MethodName := ⟨RX6, "kth", "(II)I"⟩
def dkwX6_kth_1 : List UInt8 := [160, 0, 5, 29, 172, 132, 2, 1, 132, 3, 1, 167, 255, 226, 2, 172]
abbrev dktX6_kth_1 : List UInt8 := dkwX6_kth_1 ++ []
def dkwX6_kth_0 : List UInt8 := [3, 61, 3, 62, 29, 16, 8, 162, 0, 30, 26, 29, 184, 0, 74, 154, 0, 6, 167, 0, 13, 28, 27]
abbrev dktX6_kth_0 : List UInt8 := dkwX6_kth_0 ++ dktX6_kth_1
theorem dksX6_kth_0 : cX6_kth.data.toList.drop 0 = dktX6_kth_0 := by decide +kernel
theorem dksX6_kth_1 : cX6_kth.data.toList.drop 23 = dktX6_kth_1 := dk_seg dksX6_kth_0 23 rfl rfl
theorem dX6_kth_0 : decode cX6_kth 0 = .ok (.iconst 0, 1) := dk_3 (dk_at dksX6_kth_0 0 rfl rfl)
theorem dX6_kth_1 : decode cX6_kth 1 = .ok (.istore_n 2, 1) := dk_61 (dk_at dksX6_kth_0 1 rfl rfl)
theorem dX6_kth_2 : decode cX6_kth 2 = .ok (.iconst 0, 1) := dk_3 (dk_at dksX6_kth_0 2 rfl rfl)
theorem dX6_kth_3 : decode cX6_kth 3 = .ok (.istore_n 3, 1) := dk_62 (dk_at dksX6_kth_0 3 rfl rfl)
theorem dX6_kth_4 : decode cX6_kth 4 = .ok (.iload_n 3, 1) := dk_29 (dk_at dksX6_kth_0 4 rfl rfl)
theorem dX6_kth_5 : decode cX6_kth 5 = .ok (.bipush 8, 2) := dk_16 8 (dk_at dksX6_kth_0 5 rfl rfl)
theorem dX6_kth_7 : decode cX6_kth 7 = .ok (.if_icmp .ge 30, 3) := dk_162 0 30 (dk_at dksX6_kth_0 7 rfl rfl)
theorem dX6_kth_10 : decode cX6_kth 10 = .ok (.iload_n 0, 1) := dk_26 (dk_at dksX6_kth_0 10 rfl rfl)
theorem dX6_kth_11 : decode cX6_kth 11 = .ok (.iload_n 3, 1) := dk_29 (dk_at dksX6_kth_0 11 rfl rfl)
theorem dX6_kth_12 : decode cX6_kth 12 = .ok (.invokestatic 74, 3) := dk_184 0 74 (dk_at dksX6_kth_0 12 rfl rfl)
theorem dX6_kth_15 : decode cX6_kth 15 = .ok (.ifCond .ne 6, 3) := dk_154 0 6 (dk_at dksX6_kth_0 15 rfl rfl)
theorem dX6_kth_18 : decode cX6_kth 18 = .ok (.goto 13, 3) := dk_167 0 13 (dk_at dksX6_kth_0 18 rfl rfl)
theorem dX6_kth_21 : decode cX6_kth 21 = .ok (.iload_n 2, 1) := dk_28 (dk_at dksX6_kth_0 21 rfl rfl)
theorem dX6_kth_22 : decode cX6_kth 22 = .ok (.iload_n 1, 1) := dk_27 (dk_at dksX6_kth_0 22 rfl rfl)
theorem dX6_kth_23 : decode cX6_kth 23 = .ok (.if_icmp .ne 5, 3) := dk_160 0 5 (dk_at dksX6_kth_1 0 rfl rfl)
theorem dX6_kth_26 : decode cX6_kth 26 = .ok (.iload_n 3, 1) := dk_29 (dk_at dksX6_kth_1 3 rfl rfl)
theorem dX6_kth_27 : decode cX6_kth 27 = .ok (.ireturn, 1) := dk_172 (dk_at dksX6_kth_1 4 rfl rfl)
theorem dX6_kth_28 : decode cX6_kth 28 = .ok (.iinc 2 1, 3) := dk_132 2 1 (dk_at dksX6_kth_1 5 rfl rfl)
theorem dX6_kth_31 : decode cX6_kth 31 = .ok (.iinc 3 1, 3) := dk_132 3 1 (dk_at dksX6_kth_1 8 rfl rfl)
theorem dX6_kth_34 : decode cX6_kth 34 = .ok (.goto (-30), 3) := dk_167 255 226 (dk_at dksX6_kth_1 11 rfl rfl)
theorem dX6_kth_37 : decode cX6_kth 37 = .ok (.iconst (-1), 1) := dk_2 (dk_at dksX6_kth_1 14 rfl rfl)
theorem dX6_kth_38 : decode cX6_kth 38 = .ok (.ireturn, 1) := dk_172 (dk_at dksX6_kth_1 15 rfl rfl)
abbrev cX6_rathers : ByteArray := prog_19_method_92_code
def yX6_rathers : MethodName := ⟨RX6, "rathers", "()I"⟩
def dkwX6_rathers_4 : List UInt8 := [167, 255, 168, 27, 172]
abbrev dktX6_rathers_4 : List UInt8 := dkwX6_rathers_4 ++ []
def dkwX6_rathers_3 : List UInt8 := [182, 1, 106, 153, 0, 7, 4, 167, 0, 4, 3, 96, 60, 132, 3, 1, 167, 255, 186, 132, 2, 1]
abbrev dktX6_rathers_3 : List UInt8 := dkwX6_rathers_3 ++ dktX6_rathers_4
def dkwX6_rathers_2 : List UInt8 := [28, 29, 42, 180, 0, 32, 28, 46, 182, 1, 103, 153, 0, 22, 42, 29, 28, 42, 180, 0, 35, 29, 46]
abbrev dktX6_rathers_2 : List UInt8 := dkwX6_rathers_2 ++ dktX6_rathers_3
def dkwX6_rathers_1 : List UInt8 := [162, 0, 66, 27, 42, 180, 0, 32, 28, 46, 29, 159, 0, 46, 42, 28, 29, 182, 0, 78, 153, 0, 37, 42]
abbrev dktX6_rathers_1 : List UInt8 := dkwX6_rathers_1 ++ dktX6_rathers_2
def dkwX6_rathers_0 : List UInt8 := [3, 60, 3, 61, 28, 42, 180, 0, 7, 6, 46, 162, 0, 84, 3, 62, 29, 42, 180, 0, 7, 7, 46]
abbrev dktX6_rathers_0 : List UInt8 := dkwX6_rathers_0 ++ dktX6_rathers_1
theorem dksX6_rathers_0 : cX6_rathers.data.toList.drop 0 = dktX6_rathers_0 := by decide +kernel
theorem dksX6_rathers_1 : cX6_rathers.data.toList.drop 23 = dktX6_rathers_1 := dk_seg dksX6_rathers_0 23 rfl rfl
theorem dksX6_rathers_2 : cX6_rathers.data.toList.drop 47 = dktX6_rathers_2 := dk_seg dksX6_rathers_1 24 rfl rfl
theorem dksX6_rathers_3 : cX6_rathers.data.toList.drop 70 = dktX6_rathers_3 := dk_seg dksX6_rathers_2 23 rfl rfl
theorem dksX6_rathers_4 : cX6_rathers.data.toList.drop 92 = dktX6_rathers_4 := dk_seg dksX6_rathers_3 22 rfl rfl
theorem dX6_rathers_0 : decode cX6_rathers 0 = .ok (.iconst 0, 1) := dk_3 (dk_at dksX6_rathers_0 0 rfl rfl)
theorem dX6_rathers_1 : decode cX6_rathers 1 = .ok (.istore_n 1, 1) := dk_60 (dk_at dksX6_rathers_0 1 rfl rfl)
theorem dX6_rathers_2 : decode cX6_rathers 2 = .ok (.iconst 0, 1) := dk_3 (dk_at dksX6_rathers_0 2 rfl rfl)
theorem dX6_rathers_3 : decode cX6_rathers 3 = .ok (.istore_n 2, 1) := dk_61 (dk_at dksX6_rathers_0 3 rfl rfl)
theorem dX6_rathers_4 : decode cX6_rathers 4 = .ok (.iload_n 2, 1) := dk_28 (dk_at dksX6_rathers_0 4 rfl rfl)
theorem dX6_rathers_5 : decode cX6_rathers 5 = .ok (.aload_n 0, 1) := dk_42 (dk_at dksX6_rathers_0 5 rfl rfl)
theorem dX6_rathers_6 : decode cX6_rathers 6 = .ok (.getfield 7, 3) := dk_180 0 7 (dk_at dksX6_rathers_0 6 rfl rfl)
theorem dX6_rathers_9 : decode cX6_rathers 9 = .ok (.iconst 3, 1) := dk_6 (dk_at dksX6_rathers_0 9 rfl rfl)
theorem dX6_rathers_10 : decode cX6_rathers 10 = .ok (.iaload, 1) := dk_46 (dk_at dksX6_rathers_0 10 rfl rfl)
theorem dX6_rathers_11 : decode cX6_rathers 11 = .ok (.if_icmp .ge 84, 3) := dk_162 0 84 (dk_at dksX6_rathers_0 11 rfl rfl)
theorem dX6_rathers_14 : decode cX6_rathers 14 = .ok (.iconst 0, 1) := dk_3 (dk_at dksX6_rathers_0 14 rfl rfl)
theorem dX6_rathers_15 : decode cX6_rathers 15 = .ok (.istore_n 3, 1) := dk_62 (dk_at dksX6_rathers_0 15 rfl rfl)
theorem dX6_rathers_16 : decode cX6_rathers 16 = .ok (.iload_n 3, 1) := dk_29 (dk_at dksX6_rathers_0 16 rfl rfl)
theorem dX6_rathers_17 : decode cX6_rathers 17 = .ok (.aload_n 0, 1) := dk_42 (dk_at dksX6_rathers_0 17 rfl rfl)
theorem dX6_rathers_18 : decode cX6_rathers 18 = .ok (.getfield 7, 3) := dk_180 0 7 (dk_at dksX6_rathers_0 18 rfl rfl)
theorem dX6_rathers_21 : decode cX6_rathers 21 = .ok (.iconst 4, 1) := dk_7 (dk_at dksX6_rathers_0 21 rfl rfl)
theorem dX6_rathers_22 : decode cX6_rathers 22 = .ok (.iaload, 1) := dk_46 (dk_at dksX6_rathers_0 22 rfl rfl)
theorem dX6_rathers_23 : decode cX6_rathers 23 = .ok (.if_icmp .ge 66, 3) := dk_162 0 66 (dk_at dksX6_rathers_1 0 rfl rfl)
theorem dX6_rathers_26 : decode cX6_rathers 26 = .ok (.iload_n 1, 1) := dk_27 (dk_at dksX6_rathers_1 3 rfl rfl)
theorem dX6_rathers_27 : decode cX6_rathers 27 = .ok (.aload_n 0, 1) := dk_42 (dk_at dksX6_rathers_1 4 rfl rfl)
theorem dX6_rathers_28 : decode cX6_rathers 28 = .ok (.getfield 32, 3) := dk_180 0 32 (dk_at dksX6_rathers_1 5 rfl rfl)
theorem dX6_rathers_31 : decode cX6_rathers 31 = .ok (.iload_n 2, 1) := dk_28 (dk_at dksX6_rathers_1 8 rfl rfl)
theorem dX6_rathers_32 : decode cX6_rathers 32 = .ok (.iaload, 1) := dk_46 (dk_at dksX6_rathers_1 9 rfl rfl)
theorem dX6_rathers_33 : decode cX6_rathers 33 = .ok (.iload_n 3, 1) := dk_29 (dk_at dksX6_rathers_1 10 rfl rfl)
theorem dX6_rathers_34 : decode cX6_rathers 34 = .ok (.if_icmp .eq 46, 3) := dk_159 0 46 (dk_at dksX6_rathers_1 11 rfl rfl)
theorem dX6_rathers_37 : decode cX6_rathers 37 = .ok (.aload_n 0, 1) := dk_42 (dk_at dksX6_rathers_1 14 rfl rfl)
theorem dX6_rathers_38 : decode cX6_rathers 38 = .ok (.iload_n 2, 1) := dk_28 (dk_at dksX6_rathers_1 15 rfl rfl)
theorem dX6_rathers_39 : decode cX6_rathers 39 = .ok (.iload_n 3, 1) := dk_29 (dk_at dksX6_rathers_1 16 rfl rfl)
theorem dX6_rathers_40 : decode cX6_rathers 40 = .ok (.invokevirtual 78, 3) := dk_182 0 78 (dk_at dksX6_rathers_1 17 rfl rfl)
theorem dX6_rathers_43 : decode cX6_rathers 43 = .ok (.ifCond .eq 37, 3) := dk_153 0 37 (dk_at dksX6_rathers_1 20 rfl rfl)
theorem dX6_rathers_46 : decode cX6_rathers 46 = .ok (.aload_n 0, 1) := dk_42 (dk_at dksX6_rathers_1 23 rfl rfl)
theorem dX6_rathers_47 : decode cX6_rathers 47 = .ok (.iload_n 2, 1) := dk_28 (dk_at dksX6_rathers_2 0 rfl rfl)
theorem dX6_rathers_48 : decode cX6_rathers 48 = .ok (.iload_n 3, 1) := dk_29 (dk_at dksX6_rathers_2 1 rfl rfl)
theorem dX6_rathers_49 : decode cX6_rathers 49 = .ok (.aload_n 0, 1) := dk_42 (dk_at dksX6_rathers_2 2 rfl rfl)
theorem dX6_rathers_50 : decode cX6_rathers 50 = .ok (.getfield 32, 3) := dk_180 0 32 (dk_at dksX6_rathers_2 3 rfl rfl)
theorem dX6_rathers_53 : decode cX6_rathers 53 = .ok (.iload_n 2, 1) := dk_28 (dk_at dksX6_rathers_2 6 rfl rfl)
theorem dX6_rathers_54 : decode cX6_rathers 54 = .ok (.iaload, 1) := dk_46 (dk_at dksX6_rathers_2 7 rfl rfl)
theorem dX6_rathers_55 : decode cX6_rathers 55 = .ok (.invokevirtual 359, 3) := dk_182 1 103 (dk_at dksX6_rathers_2 8 rfl rfl)
theorem dX6_rathers_58 : decode cX6_rathers 58 = .ok (.ifCond .eq 22, 3) := dk_153 0 22 (dk_at dksX6_rathers_2 11 rfl rfl)
theorem dX6_rathers_61 : decode cX6_rathers 61 = .ok (.aload_n 0, 1) := dk_42 (dk_at dksX6_rathers_2 14 rfl rfl)
theorem dX6_rathers_62 : decode cX6_rathers 62 = .ok (.iload_n 3, 1) := dk_29 (dk_at dksX6_rathers_2 15 rfl rfl)
theorem dX6_rathers_63 : decode cX6_rathers 63 = .ok (.iload_n 2, 1) := dk_28 (dk_at dksX6_rathers_2 16 rfl rfl)
theorem dX6_rathers_64 : decode cX6_rathers 64 = .ok (.aload_n 0, 1) := dk_42 (dk_at dksX6_rathers_2 17 rfl rfl)
theorem dX6_rathers_65 : decode cX6_rathers 65 = .ok (.getfield 35, 3) := dk_180 0 35 (dk_at dksX6_rathers_2 18 rfl rfl)
theorem dX6_rathers_68 : decode cX6_rathers 68 = .ok (.iload_n 3, 1) := dk_29 (dk_at dksX6_rathers_2 21 rfl rfl)
theorem dX6_rathers_69 : decode cX6_rathers 69 = .ok (.iaload, 1) := dk_46 (dk_at dksX6_rathers_2 22 rfl rfl)
theorem dX6_rathers_70 : decode cX6_rathers 70 = .ok (.invokevirtual 362, 3) := dk_182 1 106 (dk_at dksX6_rathers_3 0 rfl rfl)
theorem dX6_rathers_73 : decode cX6_rathers 73 = .ok (.ifCond .eq 7, 3) := dk_153 0 7 (dk_at dksX6_rathers_3 3 rfl rfl)
theorem dX6_rathers_76 : decode cX6_rathers 76 = .ok (.iconst 1, 1) := dk_4 (dk_at dksX6_rathers_3 6 rfl rfl)
theorem dX6_rathers_77 : decode cX6_rathers 77 = .ok (.goto 4, 3) := dk_167 0 4 (dk_at dksX6_rathers_3 7 rfl rfl)
theorem dX6_rathers_80 : decode cX6_rathers 80 = .ok (.iconst 0, 1) := dk_3 (dk_at dksX6_rathers_3 10 rfl rfl)
theorem dX6_rathers_81 : decode cX6_rathers 81 = .ok (.iadd, 1) := dk_96 (dk_at dksX6_rathers_3 11 rfl rfl)
theorem dX6_rathers_82 : decode cX6_rathers 82 = .ok (.istore_n 1, 1) := dk_60 (dk_at dksX6_rathers_3 12 rfl rfl)
theorem dX6_rathers_83 : decode cX6_rathers 83 = .ok (.iinc 3 1, 3) := dk_132 3 1 (dk_at dksX6_rathers_3 13 rfl rfl)
theorem dX6_rathers_86 : decode cX6_rathers 86 = .ok (.goto (-70), 3) := dk_167 255 186 (dk_at dksX6_rathers_3 16 rfl rfl)
theorem dX6_rathers_89 : decode cX6_rathers 89 = .ok (.iinc 2 1, 3) := dk_132 2 1 (dk_at dksX6_rathers_3 19 rfl rfl)
theorem dX6_rathers_92 : decode cX6_rathers 92 = .ok (.goto (-88), 3) := dk_167 255 168 (dk_at dksX6_rathers_4 0 rfl rfl)
theorem dX6_rathers_95 : decode cX6_rathers 95 = .ok (.iload_n 1, 1) := dk_27 (dk_at dksX6_rathers_4 3 rfl rfl)
theorem dX6_rathers_96 : decode cX6_rathers 96 = .ok (.ireturn, 1) := dk_172 (dk_at dksX6_rathers_4 4 rfl rfl)
abbrev cX6_rather : ByteArray := prog_19_method_96_code
def yX6_rather : MethodName := ⟨RX6, "rather", "()I"⟩
def dkwX6_rather_9 : List UInt8 := [132, 3, 1, 167, 255, 164, 42, 182, 1, 119, 172]
abbrev dktX6_rather_9 : List UInt8 := dkwX6_rather_9 ++ []
def dkwX6_rather_8 : List UInt8 := [29, 46, 182, 0, 78, 154, 0, 5, 2, 172, 42, 180, 0, 35, 42, 180, 0, 22, 29, 46, 29, 79]
abbrev dktX6_rather_8 : List UInt8 := dkwX6_rather_8 ++ dktX6_rather_9
def dkwX6_rather_7 : List UInt8 := [167, 0, 46, 42, 180, 0, 35, 42, 180, 0, 22, 29, 46, 46, 2, 160, 0, 17, 42, 29, 42, 180, 0, 22]
abbrev dktX6_rather_7 : List UInt8 := dkwX6_rather_7 ++ dktX6_rather_8
def dkwX6_rather_6 : List UInt8 := [160, 0, 7, 2, 167, 0, 9, 42, 180, 0, 22, 29, 46, 79, 42, 180, 0, 32, 29, 46, 2, 160, 0, 6]
abbrev dktX6_rather_6 : List UInt8 := dkwX6_rather_6 ++ dktX6_rather_7
def dkwX6_rather_5 : List UInt8 := [167, 255, 240, 3, 62, 29, 27, 162, 0, 93, 42, 180, 0, 32, 29, 42, 180, 0, 22, 29, 46, 17, 0, 255]
abbrev dktX6_rather_5 : List UInt8 := dkwX6_rather_5 ++ dktX6_rather_6
def dkwX6_rather_4 : List UInt8 := [158, 0, 5, 3, 172, 3, 62, 29, 16, 8, 162, 0, 16, 42, 180, 0, 35, 29, 2, 79, 132, 3, 1]
abbrev dktX6_rather_4 : List UInt8 := dkwX6_rather_4 ++ dktX6_rather_5
def dkwX6_rather_3 : List UInt8 := [132, 3, 1, 167, 255, 211, 42, 28, 153, 0, 7, 3, 167, 0, 4, 4, 181, 0, 54, 42, 180, 0, 54]
abbrev dktX6_rather_3 : List UInt8 := dkwX6_rather_3 ++ dktX6_rather_4
def dkwX6_rather_2 : List UInt8 := [46, 161, 0, 15, 42, 180, 0, 22, 29, 46, 17, 0, 255, 160, 0, 7, 4, 167, 0, 4, 3, 61]
abbrev dktX6_rather_2 : List UInt8 := dkwX6_rather_2 ++ dktX6_rather_3
def dkwX6_rather_1 : List UInt8 := [3, 61, 3, 62, 29, 27, 162, 0, 46, 28, 153, 0, 42, 42, 180, 0, 22, 29, 46, 42, 180, 0, 7, 7]
abbrev dktX6_rather_1 : List UInt8 := dkwX6_rather_1 ++ dktX6_rather_2
def dkwX6_rather_0 : List UInt8 := [42, 180, 0, 81, 60, 42, 3, 181, 0, 81, 27, 42, 180, 0, 7, 6, 46, 160, 0, 7, 4, 167, 0, 4]
abbrev dktX6_rather_0 : List UInt8 := dkwX6_rather_0 ++ dktX6_rather_1
theorem dksX6_rather_0 : cX6_rather.data.toList.drop 0 = dktX6_rather_0 := by decide +kernel
theorem dksX6_rather_1 : cX6_rather.data.toList.drop 24 = dktX6_rather_1 := dk_seg dksX6_rather_0 24 rfl rfl
theorem dksX6_rather_2 : cX6_rather.data.toList.drop 48 = dktX6_rather_2 := dk_seg dksX6_rather_1 24 rfl rfl
theorem dksX6_rather_3 : cX6_rather.data.toList.drop 70 = dktX6_rather_3 := dk_seg dksX6_rather_2 22 rfl rfl
theorem dksX6_rather_4 : cX6_rather.data.toList.drop 93 = dktX6_rather_4 := dk_seg dksX6_rather_3 23 rfl rfl
theorem dksX6_rather_5 : cX6_rather.data.toList.drop 116 = dktX6_rather_5 := dk_seg dksX6_rather_4 23 rfl rfl
theorem dksX6_rather_6 : cX6_rather.data.toList.drop 140 = dktX6_rather_6 := dk_seg dksX6_rather_5 24 rfl rfl
theorem dksX6_rather_7 : cX6_rather.data.toList.drop 164 = dktX6_rather_7 := dk_seg dksX6_rather_6 24 rfl rfl
theorem dksX6_rather_8 : cX6_rather.data.toList.drop 188 = dktX6_rather_8 := dk_seg dksX6_rather_7 24 rfl rfl
theorem dksX6_rather_9 : cX6_rather.data.toList.drop 210 = dktX6_rather_9 := dk_seg dksX6_rather_8 22 rfl rfl
theorem dX6_rather_0 : decode cX6_rather 0 = .ok (.aload_n 0, 1) := dk_42 (dk_at dksX6_rather_0 0 rfl rfl)
theorem dX6_rather_1 : decode cX6_rather 1 = .ok (.getfield 81, 3) := dk_180 0 81 (dk_at dksX6_rather_0 1 rfl rfl)
theorem dX6_rather_4 : decode cX6_rather 4 = .ok (.istore_n 1, 1) := dk_60 (dk_at dksX6_rather_0 4 rfl rfl)
theorem dX6_rather_5 : decode cX6_rather 5 = .ok (.aload_n 0, 1) := dk_42 (dk_at dksX6_rather_0 5 rfl rfl)
theorem dX6_rather_6 : decode cX6_rather 6 = .ok (.iconst 0, 1) := dk_3 (dk_at dksX6_rather_0 6 rfl rfl)
theorem dX6_rather_7 : decode cX6_rather 7 = .ok (.putfield 81, 3) := dk_181 0 81 (dk_at dksX6_rather_0 7 rfl rfl)
theorem dX6_rather_10 : decode cX6_rather 10 = .ok (.iload_n 1, 1) := dk_27 (dk_at dksX6_rather_0 10 rfl rfl)
theorem dX6_rather_11 : decode cX6_rather 11 = .ok (.aload_n 0, 1) := dk_42 (dk_at dksX6_rather_0 11 rfl rfl)
theorem dX6_rather_12 : decode cX6_rather 12 = .ok (.getfield 7, 3) := dk_180 0 7 (dk_at dksX6_rather_0 12 rfl rfl)
theorem dX6_rather_15 : decode cX6_rather 15 = .ok (.iconst 3, 1) := dk_6 (dk_at dksX6_rather_0 15 rfl rfl)
theorem dX6_rather_16 : decode cX6_rather 16 = .ok (.iaload, 1) := dk_46 (dk_at dksX6_rather_0 16 rfl rfl)
theorem dX6_rather_17 : decode cX6_rather 17 = .ok (.if_icmp .ne 7, 3) := dk_160 0 7 (dk_at dksX6_rather_0 17 rfl rfl)
theorem dX6_rather_20 : decode cX6_rather 20 = .ok (.iconst 1, 1) := dk_4 (dk_at dksX6_rather_0 20 rfl rfl)
theorem dX6_rather_21 : decode cX6_rather 21 = .ok (.goto 4, 3) := dk_167 0 4 (dk_at dksX6_rather_0 21 rfl rfl)
theorem dX6_rather_24 : decode cX6_rather 24 = .ok (.iconst 0, 1) := dk_3 (dk_at dksX6_rather_1 0 rfl rfl)
theorem dX6_rather_25 : decode cX6_rather 25 = .ok (.istore_n 2, 1) := dk_61 (dk_at dksX6_rather_1 1 rfl rfl)
theorem dX6_rather_26 : decode cX6_rather 26 = .ok (.iconst 0, 1) := dk_3 (dk_at dksX6_rather_1 2 rfl rfl)
theorem dX6_rather_27 : decode cX6_rather 27 = .ok (.istore_n 3, 1) := dk_62 (dk_at dksX6_rather_1 3 rfl rfl)
theorem dX6_rather_28 : decode cX6_rather 28 = .ok (.iload_n 3, 1) := dk_29 (dk_at dksX6_rather_1 4 rfl rfl)
theorem dX6_rather_29 : decode cX6_rather 29 = .ok (.iload_n 1, 1) := dk_27 (dk_at dksX6_rather_1 5 rfl rfl)
theorem dX6_rather_30 : decode cX6_rather 30 = .ok (.if_icmp .ge 46, 3) := dk_162 0 46 (dk_at dksX6_rather_1 6 rfl rfl)
theorem dX6_rather_33 : decode cX6_rather 33 = .ok (.iload_n 2, 1) := dk_28 (dk_at dksX6_rather_1 9 rfl rfl)
theorem dX6_rather_34 : decode cX6_rather 34 = .ok (.ifCond .eq 42, 3) := dk_153 0 42 (dk_at dksX6_rather_1 10 rfl rfl)
theorem dX6_rather_37 : decode cX6_rather 37 = .ok (.aload_n 0, 1) := dk_42 (dk_at dksX6_rather_1 13 rfl rfl)
theorem dX6_rather_38 : decode cX6_rather 38 = .ok (.getfield 22, 3) := dk_180 0 22 (dk_at dksX6_rather_1 14 rfl rfl)
theorem dX6_rather_41 : decode cX6_rather 41 = .ok (.iload_n 3, 1) := dk_29 (dk_at dksX6_rather_1 17 rfl rfl)
theorem dX6_rather_42 : decode cX6_rather 42 = .ok (.iaload, 1) := dk_46 (dk_at dksX6_rather_1 18 rfl rfl)
theorem dX6_rather_43 : decode cX6_rather 43 = .ok (.aload_n 0, 1) := dk_42 (dk_at dksX6_rather_1 19 rfl rfl)
theorem dX6_rather_44 : decode cX6_rather 44 = .ok (.getfield 7, 3) := dk_180 0 7 (dk_at dksX6_rather_1 20 rfl rfl)
theorem dX6_rather_47 : decode cX6_rather 47 = .ok (.iconst 4, 1) := dk_7 (dk_at dksX6_rather_1 23 rfl rfl)
theorem dX6_rather_48 : decode cX6_rather 48 = .ok (.iaload, 1) := dk_46 (dk_at dksX6_rather_2 0 rfl rfl)
theorem dX6_rather_49 : decode cX6_rather 49 = .ok (.if_icmp .lt 15, 3) := dk_161 0 15 (dk_at dksX6_rather_2 1 rfl rfl)
theorem dX6_rather_52 : decode cX6_rather 52 = .ok (.aload_n 0, 1) := dk_42 (dk_at dksX6_rather_2 4 rfl rfl)
theorem dX6_rather_53 : decode cX6_rather 53 = .ok (.getfield 22, 3) := dk_180 0 22 (dk_at dksX6_rather_2 5 rfl rfl)
theorem dX6_rather_56 : decode cX6_rather 56 = .ok (.iload_n 3, 1) := dk_29 (dk_at dksX6_rather_2 8 rfl rfl)
theorem dX6_rather_57 : decode cX6_rather 57 = .ok (.iaload, 1) := dk_46 (dk_at dksX6_rather_2 9 rfl rfl)
theorem dX6_rather_58 : decode cX6_rather 58 = .ok (.sipush 255, 3) := dk_17 0 255 (dk_at dksX6_rather_2 10 rfl rfl)
theorem dX6_rather_61 : decode cX6_rather 61 = .ok (.if_icmp .ne 7, 3) := dk_160 0 7 (dk_at dksX6_rather_2 13 rfl rfl)
theorem dX6_rather_64 : decode cX6_rather 64 = .ok (.iconst 1, 1) := dk_4 (dk_at dksX6_rather_2 16 rfl rfl)
theorem dX6_rather_65 : decode cX6_rather 65 = .ok (.goto 4, 3) := dk_167 0 4 (dk_at dksX6_rather_2 17 rfl rfl)
theorem dX6_rather_68 : decode cX6_rather 68 = .ok (.iconst 0, 1) := dk_3 (dk_at dksX6_rather_2 20 rfl rfl)
theorem dX6_rather_69 : decode cX6_rather 69 = .ok (.istore_n 2, 1) := dk_61 (dk_at dksX6_rather_2 21 rfl rfl)
theorem dX6_rather_70 : decode cX6_rather 70 = .ok (.iinc 3 1, 3) := dk_132 3 1 (dk_at dksX6_rather_3 0 rfl rfl)
theorem dX6_rather_73 : decode cX6_rather 73 = .ok (.goto (-45), 3) := dk_167 255 211 (dk_at dksX6_rather_3 3 rfl rfl)
theorem dX6_rather_76 : decode cX6_rather 76 = .ok (.aload_n 0, 1) := dk_42 (dk_at dksX6_rather_3 6 rfl rfl)
theorem dX6_rather_77 : decode cX6_rather 77 = .ok (.iload_n 2, 1) := dk_28 (dk_at dksX6_rather_3 7 rfl rfl)
theorem dX6_rather_78 : decode cX6_rather 78 = .ok (.ifCond .eq 7, 3) := dk_153 0 7 (dk_at dksX6_rather_3 8 rfl rfl)
theorem dX6_rather_81 : decode cX6_rather 81 = .ok (.iconst 0, 1) := dk_3 (dk_at dksX6_rather_3 11 rfl rfl)
theorem dX6_rather_82 : decode cX6_rather 82 = .ok (.goto 4, 3) := dk_167 0 4 (dk_at dksX6_rather_3 12 rfl rfl)
theorem dX6_rather_85 : decode cX6_rather 85 = .ok (.iconst 1, 1) := dk_4 (dk_at dksX6_rather_3 15 rfl rfl)
theorem dX6_rather_86 : decode cX6_rather 86 = .ok (.putfield 54, 3) := dk_181 0 54 (dk_at dksX6_rather_3 16 rfl rfl)
theorem dX6_rather_89 : decode cX6_rather 89 = .ok (.aload_n 0, 1) := dk_42 (dk_at dksX6_rather_3 19 rfl rfl)
theorem dX6_rather_90 : decode cX6_rather 90 = .ok (.getfield 54, 3) := dk_180 0 54 (dk_at dksX6_rather_3 20 rfl rfl)
theorem dX6_rather_93 : decode cX6_rather 93 = .ok (.ifCond .le 5, 3) := dk_158 0 5 (dk_at dksX6_rather_4 0 rfl rfl)
theorem dX6_rather_96 : decode cX6_rather 96 = .ok (.iconst 0, 1) := dk_3 (dk_at dksX6_rather_4 3 rfl rfl)
theorem dX6_rather_97 : decode cX6_rather 97 = .ok (.ireturn, 1) := dk_172 (dk_at dksX6_rather_4 4 rfl rfl)
theorem dX6_rather_98 : decode cX6_rather 98 = .ok (.iconst 0, 1) := dk_3 (dk_at dksX6_rather_4 5 rfl rfl)
theorem dX6_rather_99 : decode cX6_rather 99 = .ok (.istore_n 3, 1) := dk_62 (dk_at dksX6_rather_4 6 rfl rfl)
theorem dX6_rather_100 : decode cX6_rather 100 = .ok (.iload_n 3, 1) := dk_29 (dk_at dksX6_rather_4 7 rfl rfl)
theorem dX6_rather_101 : decode cX6_rather 101 = .ok (.bipush 8, 2) := dk_16 8 (dk_at dksX6_rather_4 8 rfl rfl)
theorem dX6_rather_103 : decode cX6_rather 103 = .ok (.if_icmp .ge 16, 3) := dk_162 0 16 (dk_at dksX6_rather_4 10 rfl rfl)
theorem dX6_rather_106 : decode cX6_rather 106 = .ok (.aload_n 0, 1) := dk_42 (dk_at dksX6_rather_4 13 rfl rfl)
theorem dX6_rather_107 : decode cX6_rather 107 = .ok (.getfield 35, 3) := dk_180 0 35 (dk_at dksX6_rather_4 14 rfl rfl)
theorem dX6_rather_110 : decode cX6_rather 110 = .ok (.iload_n 3, 1) := dk_29 (dk_at dksX6_rather_4 17 rfl rfl)
theorem dX6_rather_111 : decode cX6_rather 111 = .ok (.iconst (-1), 1) := dk_2 (dk_at dksX6_rather_4 18 rfl rfl)
theorem dX6_rather_112 : decode cX6_rather 112 = .ok (.iastore, 1) := dk_79 (dk_at dksX6_rather_4 19 rfl rfl)
theorem dX6_rather_113 : decode cX6_rather 113 = .ok (.iinc 3 1, 3) := dk_132 3 1 (dk_at dksX6_rather_4 20 rfl rfl)
theorem dX6_rather_116 : decode cX6_rather 116 = .ok (.goto (-16), 3) := dk_167 255 240 (dk_at dksX6_rather_5 0 rfl rfl)
theorem dX6_rather_119 : decode cX6_rather 119 = .ok (.iconst 0, 1) := dk_3 (dk_at dksX6_rather_5 3 rfl rfl)
theorem dX6_rather_120 : decode cX6_rather 120 = .ok (.istore_n 3, 1) := dk_62 (dk_at dksX6_rather_5 4 rfl rfl)
theorem dX6_rather_121 : decode cX6_rather 121 = .ok (.iload_n 3, 1) := dk_29 (dk_at dksX6_rather_5 5 rfl rfl)
theorem dX6_rather_122 : decode cX6_rather 122 = .ok (.iload_n 1, 1) := dk_27 (dk_at dksX6_rather_5 6 rfl rfl)
theorem dX6_rather_123 : decode cX6_rather 123 = .ok (.if_icmp .ge 93, 3) := dk_162 0 93 (dk_at dksX6_rather_5 7 rfl rfl)
theorem dX6_rather_126 : decode cX6_rather 126 = .ok (.aload_n 0, 1) := dk_42 (dk_at dksX6_rather_5 10 rfl rfl)
theorem dX6_rather_127 : decode cX6_rather 127 = .ok (.getfield 32, 3) := dk_180 0 32 (dk_at dksX6_rather_5 11 rfl rfl)
theorem dX6_rather_130 : decode cX6_rather 130 = .ok (.iload_n 3, 1) := dk_29 (dk_at dksX6_rather_5 14 rfl rfl)
theorem dX6_rather_131 : decode cX6_rather 131 = .ok (.aload_n 0, 1) := dk_42 (dk_at dksX6_rather_5 15 rfl rfl)
theorem dX6_rather_132 : decode cX6_rather 132 = .ok (.getfield 22, 3) := dk_180 0 22 (dk_at dksX6_rather_5 16 rfl rfl)
theorem dX6_rather_135 : decode cX6_rather 135 = .ok (.iload_n 3, 1) := dk_29 (dk_at dksX6_rather_5 19 rfl rfl)
theorem dX6_rather_136 : decode cX6_rather 136 = .ok (.iaload, 1) := dk_46 (dk_at dksX6_rather_5 20 rfl rfl)
theorem dX6_rather_137 : decode cX6_rather 137 = .ok (.sipush 255, 3) := dk_17 0 255 (dk_at dksX6_rather_5 21 rfl rfl)
theorem dX6_rather_140 : decode cX6_rather 140 = .ok (.if_icmp .ne 7, 3) := dk_160 0 7 (dk_at dksX6_rather_6 0 rfl rfl)
theorem dX6_rather_143 : decode cX6_rather 143 = .ok (.iconst (-1), 1) := dk_2 (dk_at dksX6_rather_6 3 rfl rfl)
theorem dX6_rather_144 : decode cX6_rather 144 = .ok (.goto 9, 3) := dk_167 0 9 (dk_at dksX6_rather_6 4 rfl rfl)
theorem dX6_rather_147 : decode cX6_rather 147 = .ok (.aload_n 0, 1) := dk_42 (dk_at dksX6_rather_6 7 rfl rfl)
theorem dX6_rather_148 : decode cX6_rather 148 = .ok (.getfield 22, 3) := dk_180 0 22 (dk_at dksX6_rather_6 8 rfl rfl)
theorem dX6_rather_151 : decode cX6_rather 151 = .ok (.iload_n 3, 1) := dk_29 (dk_at dksX6_rather_6 11 rfl rfl)
theorem dX6_rather_152 : decode cX6_rather 152 = .ok (.iaload, 1) := dk_46 (dk_at dksX6_rather_6 12 rfl rfl)
theorem dX6_rather_153 : decode cX6_rather 153 = .ok (.iastore, 1) := dk_79 (dk_at dksX6_rather_6 13 rfl rfl)
theorem dX6_rather_154 : decode cX6_rather 154 = .ok (.aload_n 0, 1) := dk_42 (dk_at dksX6_rather_6 14 rfl rfl)
theorem dX6_rather_155 : decode cX6_rather 155 = .ok (.getfield 32, 3) := dk_180 0 32 (dk_at dksX6_rather_6 15 rfl rfl)
theorem dX6_rather_158 : decode cX6_rather 158 = .ok (.iload_n 3, 1) := dk_29 (dk_at dksX6_rather_6 18 rfl rfl)
theorem dX6_rather_159 : decode cX6_rather 159 = .ok (.iaload, 1) := dk_46 (dk_at dksX6_rather_6 19 rfl rfl)
theorem dX6_rather_160 : decode cX6_rather 160 = .ok (.iconst (-1), 1) := dk_2 (dk_at dksX6_rather_6 20 rfl rfl)
theorem dX6_rather_161 : decode cX6_rather 161 = .ok (.if_icmp .ne 6, 3) := dk_160 0 6 (dk_at dksX6_rather_6 21 rfl rfl)
theorem dX6_rather_164 : decode cX6_rather 164 = .ok (.goto 46, 3) := dk_167 0 46 (dk_at dksX6_rather_7 0 rfl rfl)
theorem dX6_rather_167 : decode cX6_rather 167 = .ok (.aload_n 0, 1) := dk_42 (dk_at dksX6_rather_7 3 rfl rfl)
theorem dX6_rather_168 : decode cX6_rather 168 = .ok (.getfield 35, 3) := dk_180 0 35 (dk_at dksX6_rather_7 4 rfl rfl)
theorem dX6_rather_171 : decode cX6_rather 171 = .ok (.aload_n 0, 1) := dk_42 (dk_at dksX6_rather_7 7 rfl rfl)
theorem dX6_rather_172 : decode cX6_rather 172 = .ok (.getfield 22, 3) := dk_180 0 22 (dk_at dksX6_rather_7 8 rfl rfl)
theorem dX6_rather_175 : decode cX6_rather 175 = .ok (.iload_n 3, 1) := dk_29 (dk_at dksX6_rather_7 11 rfl rfl)
theorem dX6_rather_176 : decode cX6_rather 176 = .ok (.iaload, 1) := dk_46 (dk_at dksX6_rather_7 12 rfl rfl)
theorem dX6_rather_177 : decode cX6_rather 177 = .ok (.iaload, 1) := dk_46 (dk_at dksX6_rather_7 13 rfl rfl)
theorem dX6_rather_178 : decode cX6_rather 178 = .ok (.iconst (-1), 1) := dk_2 (dk_at dksX6_rather_7 14 rfl rfl)
theorem dX6_rather_179 : decode cX6_rather 179 = .ok (.if_icmp .ne 17, 3) := dk_160 0 17 (dk_at dksX6_rather_7 15 rfl rfl)
theorem dX6_rather_182 : decode cX6_rather 182 = .ok (.aload_n 0, 1) := dk_42 (dk_at dksX6_rather_7 18 rfl rfl)
theorem dX6_rather_183 : decode cX6_rather 183 = .ok (.iload_n 3, 1) := dk_29 (dk_at dksX6_rather_7 19 rfl rfl)
theorem dX6_rather_184 : decode cX6_rather 184 = .ok (.aload_n 0, 1) := dk_42 (dk_at dksX6_rather_7 20 rfl rfl)
theorem dX6_rather_185 : decode cX6_rather 185 = .ok (.getfield 22, 3) := dk_180 0 22 (dk_at dksX6_rather_7 21 rfl rfl)
theorem dX6_rather_188 : decode cX6_rather 188 = .ok (.iload_n 3, 1) := dk_29 (dk_at dksX6_rather_8 0 rfl rfl)
theorem dX6_rather_189 : decode cX6_rather 189 = .ok (.iaload, 1) := dk_46 (dk_at dksX6_rather_8 1 rfl rfl)
theorem dX6_rather_190 : decode cX6_rather 190 = .ok (.invokevirtual 78, 3) := dk_182 0 78 (dk_at dksX6_rather_8 2 rfl rfl)
theorem dX6_rather_193 : decode cX6_rather 193 = .ok (.ifCond .ne 5, 3) := dk_154 0 5 (dk_at dksX6_rather_8 5 rfl rfl)
theorem dX6_rather_196 : decode cX6_rather 196 = .ok (.iconst (-1), 1) := dk_2 (dk_at dksX6_rather_8 8 rfl rfl)
theorem dX6_rather_197 : decode cX6_rather 197 = .ok (.ireturn, 1) := dk_172 (dk_at dksX6_rather_8 9 rfl rfl)
theorem dX6_rather_198 : decode cX6_rather 198 = .ok (.aload_n 0, 1) := dk_42 (dk_at dksX6_rather_8 10 rfl rfl)
theorem dX6_rather_199 : decode cX6_rather 199 = .ok (.getfield 35, 3) := dk_180 0 35 (dk_at dksX6_rather_8 11 rfl rfl)
theorem dX6_rather_202 : decode cX6_rather 202 = .ok (.aload_n 0, 1) := dk_42 (dk_at dksX6_rather_8 14 rfl rfl)
theorem dX6_rather_203 : decode cX6_rather 203 = .ok (.getfield 22, 3) := dk_180 0 22 (dk_at dksX6_rather_8 15 rfl rfl)
theorem dX6_rather_206 : decode cX6_rather 206 = .ok (.iload_n 3, 1) := dk_29 (dk_at dksX6_rather_8 18 rfl rfl)
theorem dX6_rather_207 : decode cX6_rather 207 = .ok (.iaload, 1) := dk_46 (dk_at dksX6_rather_8 19 rfl rfl)
theorem dX6_rather_208 : decode cX6_rather 208 = .ok (.iload_n 3, 1) := dk_29 (dk_at dksX6_rather_8 20 rfl rfl)
theorem dX6_rather_209 : decode cX6_rather 209 = .ok (.iastore, 1) := dk_79 (dk_at dksX6_rather_8 21 rfl rfl)
theorem dX6_rather_210 : decode cX6_rather 210 = .ok (.iinc 3 1, 3) := dk_132 3 1 (dk_at dksX6_rather_9 0 rfl rfl)
theorem dX6_rather_213 : decode cX6_rather 213 = .ok (.goto (-92), 3) := dk_167 255 164 (dk_at dksX6_rather_9 3 rfl rfl)
theorem dX6_rather_216 : decode cX6_rather 216 = .ok (.aload_n 0, 1) := dk_42 (dk_at dksX6_rather_9 6 rfl rfl)
theorem dX6_rather_217 : decode cX6_rather 217 = .ok (.invokevirtual 375, 3) := dk_182 1 119 (dk_at dksX6_rather_9 7 rfl rfl)
theorem dX6_rather_220 : decode cX6_rather 220 = .ok (.ireturn, 1) := dk_172 (dk_at dksX6_rather_9 10 rfl rfl)
abbrev cX6_row : ByteArray := prog_19_method_99_code
def yX6_row : MethodName := ⟨RX6, "row", "(IIZ)I"⟩
def dkwX6_row_4 : List UInt8 := [184, 1, 47, 172]
abbrev dktX6_row_4 : List UInt8 := dkwX6_row_4 ++ []
def dkwX6_row_3 : List UInt8 := [164, 0, 7, 21, 5, 54, 4, 132, 5, 1, 167, 255, 214, 29, 153, 0, 8, 21, 4, 167, 0, 8, 21, 4]
abbrev dktX6_row_3 : List UInt8 := dkwX6_row_3 ++ dktX6_row_4
def dkwX6_row_2 : List UInt8 := [180, 0, 51, 17, 8, 0, 21, 5, 96, 51, 153, 0, 20, 21, 5, 184, 1, 47, 21, 4, 184, 1, 47]
abbrev dktX6_row_2 : List UInt8 := dkwX6_row_2 ++ dktX6_row_3
def dkwX6_row_1 : List UInt8 := [3, 172, 42, 27, 28, 182, 1, 125, 3, 54, 4, 4, 54, 5, 21, 5, 17, 1, 0, 162, 0, 40, 42]
abbrev dktX6_row_1 : List UInt8 := dkwX6_row_1 ++ dktX6_row_2
def dkwX6_row_0 : List UInt8 := [42, 42, 27, 182, 1, 54, 154, 0, 7, 4, 167, 0, 4, 3, 181, 0, 54, 42, 180, 0, 54, 158, 0, 5]
abbrev dktX6_row_0 : List UInt8 := dkwX6_row_0 ++ dktX6_row_1
theorem dksX6_row_0 : cX6_row.data.toList.drop 0 = dktX6_row_0 := by decide +kernel
theorem dksX6_row_1 : cX6_row.data.toList.drop 24 = dktX6_row_1 := dk_seg dksX6_row_0 24 rfl rfl
theorem dksX6_row_2 : cX6_row.data.toList.drop 47 = dktX6_row_2 := dk_seg dksX6_row_1 23 rfl rfl
theorem dksX6_row_3 : cX6_row.data.toList.drop 70 = dktX6_row_3 := dk_seg dksX6_row_2 23 rfl rfl
theorem dksX6_row_4 : cX6_row.data.toList.drop 94 = dktX6_row_4 := dk_seg dksX6_row_3 24 rfl rfl
theorem dX6_row_0 : decode cX6_row 0 = .ok (.aload_n 0, 1) := dk_42 (dk_at dksX6_row_0 0 rfl rfl)
theorem dX6_row_1 : decode cX6_row 1 = .ok (.aload_n 0, 1) := dk_42 (dk_at dksX6_row_0 1 rfl rfl)
theorem dX6_row_2 : decode cX6_row 2 = .ok (.iload_n 1, 1) := dk_27 (dk_at dksX6_row_0 2 rfl rfl)
theorem dX6_row_3 : decode cX6_row 3 = .ok (.invokevirtual 310, 3) := dk_182 1 54 (dk_at dksX6_row_0 3 rfl rfl)
theorem dX6_row_6 : decode cX6_row 6 = .ok (.ifCond .ne 7, 3) := dk_154 0 7 (dk_at dksX6_row_0 6 rfl rfl)
theorem dX6_row_9 : decode cX6_row 9 = .ok (.iconst 1, 1) := dk_4 (dk_at dksX6_row_0 9 rfl rfl)
theorem dX6_row_10 : decode cX6_row 10 = .ok (.goto 4, 3) := dk_167 0 4 (dk_at dksX6_row_0 10 rfl rfl)
theorem dX6_row_13 : decode cX6_row 13 = .ok (.iconst 0, 1) := dk_3 (dk_at dksX6_row_0 13 rfl rfl)
theorem dX6_row_14 : decode cX6_row 14 = .ok (.putfield 54, 3) := dk_181 0 54 (dk_at dksX6_row_0 14 rfl rfl)
theorem dX6_row_17 : decode cX6_row 17 = .ok (.aload_n 0, 1) := dk_42 (dk_at dksX6_row_0 17 rfl rfl)
theorem dX6_row_18 : decode cX6_row 18 = .ok (.getfield 54, 3) := dk_180 0 54 (dk_at dksX6_row_0 18 rfl rfl)
theorem dX6_row_21 : decode cX6_row 21 = .ok (.ifCond .le 5, 3) := dk_158 0 5 (dk_at dksX6_row_0 21 rfl rfl)
theorem dX6_row_24 : decode cX6_row 24 = .ok (.iconst 0, 1) := dk_3 (dk_at dksX6_row_1 0 rfl rfl)
theorem dX6_row_25 : decode cX6_row 25 = .ok (.ireturn, 1) := dk_172 (dk_at dksX6_row_1 1 rfl rfl)
theorem dX6_row_26 : decode cX6_row 26 = .ok (.aload_n 0, 1) := dk_42 (dk_at dksX6_row_1 2 rfl rfl)
theorem dX6_row_27 : decode cX6_row 27 = .ok (.iload_n 1, 1) := dk_27 (dk_at dksX6_row_1 3 rfl rfl)
theorem dX6_row_28 : decode cX6_row 28 = .ok (.iload_n 2, 1) := dk_28 (dk_at dksX6_row_1 4 rfl rfl)
theorem dX6_row_29 : decode cX6_row 29 = .ok (.invokevirtual 381, 3) := dk_182 1 125 (dk_at dksX6_row_1 5 rfl rfl)
theorem dX6_row_32 : decode cX6_row 32 = .ok (.iconst 0, 1) := dk_3 (dk_at dksX6_row_1 8 rfl rfl)
theorem dX6_row_33 : decode cX6_row 33 = .ok (.istore 4, 2) := dk_54 4 (dk_at dksX6_row_1 9 rfl rfl)
theorem dX6_row_35 : decode cX6_row 35 = .ok (.iconst 1, 1) := dk_4 (dk_at dksX6_row_1 11 rfl rfl)
theorem dX6_row_36 : decode cX6_row 36 = .ok (.istore 5, 2) := dk_54 5 (dk_at dksX6_row_1 12 rfl rfl)
theorem dX6_row_38 : decode cX6_row 38 = .ok (.iload 5, 2) := dk_21 5 (dk_at dksX6_row_1 14 rfl rfl)
theorem dX6_row_40 : decode cX6_row 40 = .ok (.sipush 256, 3) := dk_17 1 0 (dk_at dksX6_row_1 16 rfl rfl)
theorem dX6_row_43 : decode cX6_row 43 = .ok (.if_icmp .ge 40, 3) := dk_162 0 40 (dk_at dksX6_row_1 19 rfl rfl)
theorem dX6_row_46 : decode cX6_row 46 = .ok (.aload_n 0, 1) := dk_42 (dk_at dksX6_row_1 22 rfl rfl)
theorem dX6_row_47 : decode cX6_row 47 = .ok (.getfield 51, 3) := dk_180 0 51 (dk_at dksX6_row_2 0 rfl rfl)
theorem dX6_row_50 : decode cX6_row 50 = .ok (.sipush 2048, 3) := dk_17 8 0 (dk_at dksX6_row_2 3 rfl rfl)
theorem dX6_row_53 : decode cX6_row 53 = .ok (.iload 5, 2) := dk_21 5 (dk_at dksX6_row_2 6 rfl rfl)
theorem dX6_row_55 : decode cX6_row 55 = .ok (.iadd, 1) := dk_96 (dk_at dksX6_row_2 8 rfl rfl)
theorem dX6_row_56 : decode cX6_row 56 = .ok (.baload, 1) := dk_51 (dk_at dksX6_row_2 9 rfl rfl)
theorem dX6_row_57 : decode cX6_row 57 = .ok (.ifCond .eq 20, 3) := dk_153 0 20 (dk_at dksX6_row_2 10 rfl rfl)
theorem dX6_row_60 : decode cX6_row 60 = .ok (.iload 5, 2) := dk_21 5 (dk_at dksX6_row_2 13 rfl rfl)
theorem dX6_row_62 : decode cX6_row 62 = .ok (.invokestatic 303, 3) := dk_184 1 47 (dk_at dksX6_row_2 15 rfl rfl)
theorem dX6_row_65 : decode cX6_row 65 = .ok (.iload 4, 2) := dk_21 4 (dk_at dksX6_row_2 18 rfl rfl)
theorem dX6_row_67 : decode cX6_row 67 = .ok (.invokestatic 303, 3) := dk_184 1 47 (dk_at dksX6_row_2 20 rfl rfl)
theorem dX6_row_70 : decode cX6_row 70 = .ok (.if_icmp .le 7, 3) := dk_164 0 7 (dk_at dksX6_row_3 0 rfl rfl)
theorem dX6_row_73 : decode cX6_row 73 = .ok (.iload 5, 2) := dk_21 5 (dk_at dksX6_row_3 3 rfl rfl)
theorem dX6_row_75 : decode cX6_row 75 = .ok (.istore 4, 2) := dk_54 4 (dk_at dksX6_row_3 5 rfl rfl)
theorem dX6_row_77 : decode cX6_row 77 = .ok (.iinc 5 1, 3) := dk_132 5 1 (dk_at dksX6_row_3 7 rfl rfl)
theorem dX6_row_80 : decode cX6_row 80 = .ok (.goto (-42), 3) := dk_167 255 214 (dk_at dksX6_row_3 10 rfl rfl)
theorem dX6_row_83 : decode cX6_row 83 = .ok (.iload_n 3, 1) := dk_29 (dk_at dksX6_row_3 13 rfl rfl)
theorem dX6_row_84 : decode cX6_row 84 = .ok (.ifCond .eq 8, 3) := dk_153 0 8 (dk_at dksX6_row_3 14 rfl rfl)
theorem dX6_row_87 : decode cX6_row 87 = .ok (.iload 4, 2) := dk_21 4 (dk_at dksX6_row_3 17 rfl rfl)
theorem dX6_row_89 : decode cX6_row 89 = .ok (.goto 8, 3) := dk_167 0 8 (dk_at dksX6_row_3 19 rfl rfl)
theorem dX6_row_92 : decode cX6_row 92 = .ok (.iload 4, 2) := dk_21 4 (dk_at dksX6_row_3 22 rfl rfl)
theorem dX6_row_94 : decode cX6_row 94 = .ok (.invokestatic 303, 3) := dk_184 1 47 (dk_at dksX6_row_4 0 rfl rfl)
theorem dX6_row_97 : decode cX6_row 97 = .ok (.ireturn, 1) := dk_172 (dk_at dksX6_row_4 3 rfl rfl)
abbrev cX6_rowsOf : ByteArray := prog_19_method_97_code
def yX6_rowsOf : MethodName := ⟨RX6, "rowsOf", "(II)V"⟩
def dkwX6_rowsOf_7 : List UInt8 := [132, 3, 1, 167, 255, 123, 177]
abbrev dktX6_rowsOf_7 : List UInt8 := dkwX6_rowsOf_7 ++ []
def dkwX6_rowsOf_6 : List UInt8 := [21, 4, 4, 21, 5, 120, 128, 96, 4, 84, 132, 5, 1, 167, 255, 190, 132, 4, 1, 167, 255, 138]
abbrev dktX6_rowsOf_6 : List UInt8 := dkwX6_rowsOf_6 ++ dktX6_rowsOf_7
def dkwX6_rowsOf_5 : List UInt8 := [182, 1, 122, 153, 0, 30, 42, 180, 0, 51, 17, 1, 0, 29, 42, 21, 5, 3, 182, 0, 71, 96, 104]
abbrev dktX6_rowsOf_5 : List UInt8 := dkwX6_rowsOf_5 ++ dktX6_rowsOf_6
def dkwX6_rowsOf_4 : List UInt8 := [7, 46, 162, 0, 61, 28, 21, 4, 2, 130, 126, 21, 5, 184, 0, 74, 153, 0, 41, 42, 27, 21, 5, 29]
abbrev dktX6_rowsOf_4 : List UInt8 := dkwX6_rowsOf_4 ++ dktX6_rowsOf_5
def dkwX6_rowsOf_3 : List UInt8 := [180, 0, 51, 17, 1, 0, 29, 4, 96, 104, 21, 4, 96, 4, 84, 3, 54, 5, 21, 5, 42, 180, 0, 7]
abbrev dktX6_rowsOf_3 : List UInt8 := dkwX6_rowsOf_3 ++ dktX6_rowsOf_4
def dkwX6_rowsOf_2 : List UInt8 := [162, 0, 116, 42, 180, 0, 51, 17, 1, 0, 29, 104, 21, 4, 96, 51, 154, 0, 6, 167, 0, 91, 42]
abbrev dktX6_rowsOf_2 : List UInt8 := dkwX6_rowsOf_2 ++ dktX6_rowsOf_3
def dkwX6_rowsOf_1 : List UInt8 := [132, 3, 1, 167, 255, 231, 3, 62, 29, 16, 8, 162, 0, 133, 3, 54, 4, 21, 4, 17, 1, 0]
abbrev dktX6_rowsOf_1 : List UInt8 := dkwX6_rowsOf_1 ++ dktX6_rowsOf_2
def dkwX6_rowsOf_0 : List UInt8 := [3, 62, 29, 17, 9, 0, 162, 0, 24, 42, 180, 0, 51, 29, 29, 154, 0, 7, 4, 167, 0, 4, 3, 84]
abbrev dktX6_rowsOf_0 : List UInt8 := dkwX6_rowsOf_0 ++ dktX6_rowsOf_1
theorem dksX6_rowsOf_0 : cX6_rowsOf.data.toList.drop 0 = dktX6_rowsOf_0 := by decide +kernel
theorem dksX6_rowsOf_1 : cX6_rowsOf.data.toList.drop 24 = dktX6_rowsOf_1 := dk_seg dksX6_rowsOf_0 24 rfl rfl
theorem dksX6_rowsOf_2 : cX6_rowsOf.data.toList.drop 46 = dktX6_rowsOf_2 := dk_seg dksX6_rowsOf_1 22 rfl rfl
theorem dksX6_rowsOf_3 : cX6_rowsOf.data.toList.drop 69 = dktX6_rowsOf_3 := dk_seg dksX6_rowsOf_2 23 rfl rfl
theorem dksX6_rowsOf_4 : cX6_rowsOf.data.toList.drop 93 = dktX6_rowsOf_4 := dk_seg dksX6_rowsOf_3 24 rfl rfl
theorem dksX6_rowsOf_5 : cX6_rowsOf.data.toList.drop 117 = dktX6_rowsOf_5 := dk_seg dksX6_rowsOf_4 24 rfl rfl
theorem dksX6_rowsOf_6 : cX6_rowsOf.data.toList.drop 140 = dktX6_rowsOf_6 := dk_seg dksX6_rowsOf_5 23 rfl rfl
theorem dksX6_rowsOf_7 : cX6_rowsOf.data.toList.drop 162 = dktX6_rowsOf_7 := dk_seg dksX6_rowsOf_6 22 rfl rfl
theorem dX6_rowsOf_0 : decode cX6_rowsOf 0 = .ok (.iconst 0, 1) := dk_3 (dk_at dksX6_rowsOf_0 0 rfl rfl)
theorem dX6_rowsOf_1 : decode cX6_rowsOf 1 = .ok (.istore_n 3, 1) := dk_62 (dk_at dksX6_rowsOf_0 1 rfl rfl)
theorem dX6_rowsOf_2 : decode cX6_rowsOf 2 = .ok (.iload_n 3, 1) := dk_29 (dk_at dksX6_rowsOf_0 2 rfl rfl)
theorem dX6_rowsOf_3 : decode cX6_rowsOf 3 = .ok (.sipush 2304, 3) := dk_17 9 0 (dk_at dksX6_rowsOf_0 3 rfl rfl)
theorem dX6_rowsOf_6 : decode cX6_rowsOf 6 = .ok (.if_icmp .ge 24, 3) := dk_162 0 24 (dk_at dksX6_rowsOf_0 6 rfl rfl)
theorem dX6_rowsOf_9 : decode cX6_rowsOf 9 = .ok (.aload_n 0, 1) := dk_42 (dk_at dksX6_rowsOf_0 9 rfl rfl)
theorem dX6_rowsOf_10 : decode cX6_rowsOf 10 = .ok (.getfield 51, 3) := dk_180 0 51 (dk_at dksX6_rowsOf_0 10 rfl rfl)
theorem dX6_rowsOf_13 : decode cX6_rowsOf 13 = .ok (.iload_n 3, 1) := dk_29 (dk_at dksX6_rowsOf_0 13 rfl rfl)
theorem dX6_rowsOf_14 : decode cX6_rowsOf 14 = .ok (.iload_n 3, 1) := dk_29 (dk_at dksX6_rowsOf_0 14 rfl rfl)
theorem dX6_rowsOf_15 : decode cX6_rowsOf 15 = .ok (.ifCond .ne 7, 3) := dk_154 0 7 (dk_at dksX6_rowsOf_0 15 rfl rfl)
theorem dX6_rowsOf_18 : decode cX6_rowsOf 18 = .ok (.iconst 1, 1) := dk_4 (dk_at dksX6_rowsOf_0 18 rfl rfl)
theorem dX6_rowsOf_19 : decode cX6_rowsOf 19 = .ok (.goto 4, 3) := dk_167 0 4 (dk_at dksX6_rowsOf_0 19 rfl rfl)
theorem dX6_rowsOf_22 : decode cX6_rowsOf 22 = .ok (.iconst 0, 1) := dk_3 (dk_at dksX6_rowsOf_0 22 rfl rfl)
theorem dX6_rowsOf_23 : decode cX6_rowsOf 23 = .ok (.bastore, 1) := dk_84 (dk_at dksX6_rowsOf_0 23 rfl rfl)
theorem dX6_rowsOf_24 : decode cX6_rowsOf 24 = .ok (.iinc 3 1, 3) := dk_132 3 1 (dk_at dksX6_rowsOf_1 0 rfl rfl)
theorem dX6_rowsOf_27 : decode cX6_rowsOf 27 = .ok (.goto (-25), 3) := dk_167 255 231 (dk_at dksX6_rowsOf_1 3 rfl rfl)
theorem dX6_rowsOf_30 : decode cX6_rowsOf 30 = .ok (.iconst 0, 1) := dk_3 (dk_at dksX6_rowsOf_1 6 rfl rfl)
theorem dX6_rowsOf_31 : decode cX6_rowsOf 31 = .ok (.istore_n 3, 1) := dk_62 (dk_at dksX6_rowsOf_1 7 rfl rfl)
theorem dX6_rowsOf_32 : decode cX6_rowsOf 32 = .ok (.iload_n 3, 1) := dk_29 (dk_at dksX6_rowsOf_1 8 rfl rfl)
theorem dX6_rowsOf_33 : decode cX6_rowsOf 33 = .ok (.bipush 8, 2) := dk_16 8 (dk_at dksX6_rowsOf_1 9 rfl rfl)
theorem dX6_rowsOf_35 : decode cX6_rowsOf 35 = .ok (.if_icmp .ge 133, 3) := dk_162 0 133 (dk_at dksX6_rowsOf_1 11 rfl rfl)
theorem dX6_rowsOf_38 : decode cX6_rowsOf 38 = .ok (.iconst 0, 1) := dk_3 (dk_at dksX6_rowsOf_1 14 rfl rfl)
theorem dX6_rowsOf_39 : decode cX6_rowsOf 39 = .ok (.istore 4, 2) := dk_54 4 (dk_at dksX6_rowsOf_1 15 rfl rfl)
theorem dX6_rowsOf_41 : decode cX6_rowsOf 41 = .ok (.iload 4, 2) := dk_21 4 (dk_at dksX6_rowsOf_1 17 rfl rfl)
theorem dX6_rowsOf_43 : decode cX6_rowsOf 43 = .ok (.sipush 256, 3) := dk_17 1 0 (dk_at dksX6_rowsOf_1 19 rfl rfl)
theorem dX6_rowsOf_46 : decode cX6_rowsOf 46 = .ok (.if_icmp .ge 116, 3) := dk_162 0 116 (dk_at dksX6_rowsOf_2 0 rfl rfl)
theorem dX6_rowsOf_49 : decode cX6_rowsOf 49 = .ok (.aload_n 0, 1) := dk_42 (dk_at dksX6_rowsOf_2 3 rfl rfl)
theorem dX6_rowsOf_50 : decode cX6_rowsOf 50 = .ok (.getfield 51, 3) := dk_180 0 51 (dk_at dksX6_rowsOf_2 4 rfl rfl)
theorem dX6_rowsOf_53 : decode cX6_rowsOf 53 = .ok (.sipush 256, 3) := dk_17 1 0 (dk_at dksX6_rowsOf_2 7 rfl rfl)
theorem dX6_rowsOf_56 : decode cX6_rowsOf 56 = .ok (.iload_n 3, 1) := dk_29 (dk_at dksX6_rowsOf_2 10 rfl rfl)
theorem dX6_rowsOf_57 : decode cX6_rowsOf 57 = .ok (.imul, 1) := dk_104 (dk_at dksX6_rowsOf_2 11 rfl rfl)
theorem dX6_rowsOf_58 : decode cX6_rowsOf 58 = .ok (.iload 4, 2) := dk_21 4 (dk_at dksX6_rowsOf_2 12 rfl rfl)
theorem dX6_rowsOf_60 : decode cX6_rowsOf 60 = .ok (.iadd, 1) := dk_96 (dk_at dksX6_rowsOf_2 14 rfl rfl)
theorem dX6_rowsOf_61 : decode cX6_rowsOf 61 = .ok (.baload, 1) := dk_51 (dk_at dksX6_rowsOf_2 15 rfl rfl)
theorem dX6_rowsOf_62 : decode cX6_rowsOf 62 = .ok (.ifCond .ne 6, 3) := dk_154 0 6 (dk_at dksX6_rowsOf_2 16 rfl rfl)
theorem dX6_rowsOf_65 : decode cX6_rowsOf 65 = .ok (.goto 91, 3) := dk_167 0 91 (dk_at dksX6_rowsOf_2 19 rfl rfl)
theorem dX6_rowsOf_68 : decode cX6_rowsOf 68 = .ok (.aload_n 0, 1) := dk_42 (dk_at dksX6_rowsOf_2 22 rfl rfl)
theorem dX6_rowsOf_69 : decode cX6_rowsOf 69 = .ok (.getfield 51, 3) := dk_180 0 51 (dk_at dksX6_rowsOf_3 0 rfl rfl)
theorem dX6_rowsOf_72 : decode cX6_rowsOf 72 = .ok (.sipush 256, 3) := dk_17 1 0 (dk_at dksX6_rowsOf_3 3 rfl rfl)
theorem dX6_rowsOf_75 : decode cX6_rowsOf 75 = .ok (.iload_n 3, 1) := dk_29 (dk_at dksX6_rowsOf_3 6 rfl rfl)
theorem dX6_rowsOf_76 : decode cX6_rowsOf 76 = .ok (.iconst 1, 1) := dk_4 (dk_at dksX6_rowsOf_3 7 rfl rfl)
theorem dX6_rowsOf_77 : decode cX6_rowsOf 77 = .ok (.iadd, 1) := dk_96 (dk_at dksX6_rowsOf_3 8 rfl rfl)
theorem dX6_rowsOf_78 : decode cX6_rowsOf 78 = .ok (.imul, 1) := dk_104 (dk_at dksX6_rowsOf_3 9 rfl rfl)
theorem dX6_rowsOf_79 : decode cX6_rowsOf 79 = .ok (.iload 4, 2) := dk_21 4 (dk_at dksX6_rowsOf_3 10 rfl rfl)
theorem dX6_rowsOf_81 : decode cX6_rowsOf 81 = .ok (.iadd, 1) := dk_96 (dk_at dksX6_rowsOf_3 12 rfl rfl)
theorem dX6_rowsOf_82 : decode cX6_rowsOf 82 = .ok (.iconst 1, 1) := dk_4 (dk_at dksX6_rowsOf_3 13 rfl rfl)
theorem dX6_rowsOf_83 : decode cX6_rowsOf 83 = .ok (.bastore, 1) := dk_84 (dk_at dksX6_rowsOf_3 14 rfl rfl)
theorem dX6_rowsOf_84 : decode cX6_rowsOf 84 = .ok (.iconst 0, 1) := dk_3 (dk_at dksX6_rowsOf_3 15 rfl rfl)
theorem dX6_rowsOf_85 : decode cX6_rowsOf 85 = .ok (.istore 5, 2) := dk_54 5 (dk_at dksX6_rowsOf_3 16 rfl rfl)
theorem dX6_rowsOf_87 : decode cX6_rowsOf 87 = .ok (.iload 5, 2) := dk_21 5 (dk_at dksX6_rowsOf_3 18 rfl rfl)
theorem dX6_rowsOf_89 : decode cX6_rowsOf 89 = .ok (.aload_n 0, 1) := dk_42 (dk_at dksX6_rowsOf_3 20 rfl rfl)
theorem dX6_rowsOf_90 : decode cX6_rowsOf 90 = .ok (.getfield 7, 3) := dk_180 0 7 (dk_at dksX6_rowsOf_3 21 rfl rfl)
theorem dX6_rowsOf_93 : decode cX6_rowsOf 93 = .ok (.iconst 4, 1) := dk_7 (dk_at dksX6_rowsOf_4 0 rfl rfl)
theorem dX6_rowsOf_94 : decode cX6_rowsOf 94 = .ok (.iaload, 1) := dk_46 (dk_at dksX6_rowsOf_4 1 rfl rfl)
theorem dX6_rowsOf_95 : decode cX6_rowsOf 95 = .ok (.if_icmp .ge 61, 3) := dk_162 0 61 (dk_at dksX6_rowsOf_4 2 rfl rfl)
theorem dX6_rowsOf_98 : decode cX6_rowsOf 98 = .ok (.iload_n 2, 1) := dk_28 (dk_at dksX6_rowsOf_4 5 rfl rfl)
theorem dX6_rowsOf_99 : decode cX6_rowsOf 99 = .ok (.iload 4, 2) := dk_21 4 (dk_at dksX6_rowsOf_4 6 rfl rfl)
theorem dX6_rowsOf_101 : decode cX6_rowsOf 101 = .ok (.iconst (-1), 1) := dk_2 (dk_at dksX6_rowsOf_4 8 rfl rfl)
theorem dX6_rowsOf_102 : decode cX6_rowsOf 102 = .ok (.ixor, 1) := dk_130 (dk_at dksX6_rowsOf_4 9 rfl rfl)
theorem dX6_rowsOf_103 : decode cX6_rowsOf 103 = .ok (.iand, 1) := dk_126 (dk_at dksX6_rowsOf_4 10 rfl rfl)
theorem dX6_rowsOf_104 : decode cX6_rowsOf 104 = .ok (.iload 5, 2) := dk_21 5 (dk_at dksX6_rowsOf_4 11 rfl rfl)
theorem dX6_rowsOf_106 : decode cX6_rowsOf 106 = .ok (.invokestatic 74, 3) := dk_184 0 74 (dk_at dksX6_rowsOf_4 13 rfl rfl)
theorem dX6_rowsOf_109 : decode cX6_rowsOf 109 = .ok (.ifCond .eq 41, 3) := dk_153 0 41 (dk_at dksX6_rowsOf_4 16 rfl rfl)
theorem dX6_rowsOf_112 : decode cX6_rowsOf 112 = .ok (.aload_n 0, 1) := dk_42 (dk_at dksX6_rowsOf_4 19 rfl rfl)
theorem dX6_rowsOf_113 : decode cX6_rowsOf 113 = .ok (.iload_n 1, 1) := dk_27 (dk_at dksX6_rowsOf_4 20 rfl rfl)
theorem dX6_rowsOf_114 : decode cX6_rowsOf 114 = .ok (.iload 5, 2) := dk_21 5 (dk_at dksX6_rowsOf_4 21 rfl rfl)
theorem dX6_rowsOf_116 : decode cX6_rowsOf 116 = .ok (.iload_n 3, 1) := dk_29 (dk_at dksX6_rowsOf_4 23 rfl rfl)
theorem dX6_rowsOf_117 : decode cX6_rowsOf 117 = .ok (.invokevirtual 378, 3) := dk_182 1 122 (dk_at dksX6_rowsOf_5 0 rfl rfl)
theorem dX6_rowsOf_120 : decode cX6_rowsOf 120 = .ok (.ifCond .eq 30, 3) := dk_153 0 30 (dk_at dksX6_rowsOf_5 3 rfl rfl)
theorem dX6_rowsOf_123 : decode cX6_rowsOf 123 = .ok (.aload_n 0, 1) := dk_42 (dk_at dksX6_rowsOf_5 6 rfl rfl)
theorem dX6_rowsOf_124 : decode cX6_rowsOf 124 = .ok (.getfield 51, 3) := dk_180 0 51 (dk_at dksX6_rowsOf_5 7 rfl rfl)
theorem dX6_rowsOf_127 : decode cX6_rowsOf 127 = .ok (.sipush 256, 3) := dk_17 1 0 (dk_at dksX6_rowsOf_5 10 rfl rfl)
theorem dX6_rowsOf_130 : decode cX6_rowsOf 130 = .ok (.iload_n 3, 1) := dk_29 (dk_at dksX6_rowsOf_5 13 rfl rfl)
theorem dX6_rowsOf_131 : decode cX6_rowsOf 131 = .ok (.aload_n 0, 1) := dk_42 (dk_at dksX6_rowsOf_5 14 rfl rfl)
theorem dX6_rowsOf_132 : decode cX6_rowsOf 132 = .ok (.iload 5, 2) := dk_21 5 (dk_at dksX6_rowsOf_5 15 rfl rfl)
theorem dX6_rowsOf_134 : decode cX6_rowsOf 134 = .ok (.iconst 0, 1) := dk_3 (dk_at dksX6_rowsOf_5 17 rfl rfl)
theorem dX6_rowsOf_135 : decode cX6_rowsOf 135 = .ok (.invokevirtual 71, 3) := dk_182 0 71 (dk_at dksX6_rowsOf_5 18 rfl rfl)
theorem dX6_rowsOf_138 : decode cX6_rowsOf 138 = .ok (.iadd, 1) := dk_96 (dk_at dksX6_rowsOf_5 21 rfl rfl)
theorem dX6_rowsOf_139 : decode cX6_rowsOf 139 = .ok (.imul, 1) := dk_104 (dk_at dksX6_rowsOf_5 22 rfl rfl)
theorem dX6_rowsOf_140 : decode cX6_rowsOf 140 = .ok (.iload 4, 2) := dk_21 4 (dk_at dksX6_rowsOf_6 0 rfl rfl)
theorem dX6_rowsOf_142 : decode cX6_rowsOf 142 = .ok (.iconst 1, 1) := dk_4 (dk_at dksX6_rowsOf_6 2 rfl rfl)
theorem dX6_rowsOf_143 : decode cX6_rowsOf 143 = .ok (.iload 5, 2) := dk_21 5 (dk_at dksX6_rowsOf_6 3 rfl rfl)
theorem dX6_rowsOf_145 : decode cX6_rowsOf 145 = .ok (.ishl, 1) := dk_120 (dk_at dksX6_rowsOf_6 5 rfl rfl)
theorem dX6_rowsOf_146 : decode cX6_rowsOf 146 = .ok (.ior, 1) := dk_128 (dk_at dksX6_rowsOf_6 6 rfl rfl)
theorem dX6_rowsOf_147 : decode cX6_rowsOf 147 = .ok (.iadd, 1) := dk_96 (dk_at dksX6_rowsOf_6 7 rfl rfl)
theorem dX6_rowsOf_148 : decode cX6_rowsOf 148 = .ok (.iconst 1, 1) := dk_4 (dk_at dksX6_rowsOf_6 8 rfl rfl)
theorem dX6_rowsOf_149 : decode cX6_rowsOf 149 = .ok (.bastore, 1) := dk_84 (dk_at dksX6_rowsOf_6 9 rfl rfl)
theorem dX6_rowsOf_150 : decode cX6_rowsOf 150 = .ok (.iinc 5 1, 3) := dk_132 5 1 (dk_at dksX6_rowsOf_6 10 rfl rfl)
theorem dX6_rowsOf_153 : decode cX6_rowsOf 153 = .ok (.goto (-66), 3) := dk_167 255 190 (dk_at dksX6_rowsOf_6 13 rfl rfl)
theorem dX6_rowsOf_156 : decode cX6_rowsOf 156 = .ok (.iinc 4 1, 3) := dk_132 4 1 (dk_at dksX6_rowsOf_6 16 rfl rfl)
theorem dX6_rowsOf_159 : decode cX6_rowsOf 159 = .ok (.goto (-118), 3) := dk_167 255 138 (dk_at dksX6_rowsOf_6 19 rfl rfl)
theorem dX6_rowsOf_162 : decode cX6_rowsOf 162 = .ok (.iinc 3 1, 3) := dk_132 3 1 (dk_at dksX6_rowsOf_7 0 rfl rfl)
theorem dX6_rowsOf_165 : decode cX6_rowsOf 165 = .ok (.goto (-133), 3) := dk_167 255 123 (dk_at dksX6_rowsOf_7 3 rfl rfl)
theorem dX6_rowsOf_168 : decode cX6_rowsOf 168 = .ok (.return_, 1) := dk_177 (dk_at dksX6_rowsOf_7 6 rfl rfl)
abbrev cX6_fitsFrom : ByteArray := prog_19_method_98_code
def yX6_fitsFrom : MethodName := ⟨RX6, "fitsFrom", "(III)Z"⟩
def dkwX6_fitsFrom_3 : List UInt8 := [167, 255, 215, 21, 4, 172]
abbrev dktX6_fitsFrom_3 : List UInt8 := dkwX6_fitsFrom_3 ++ []
def dkwX6_fitsFrom_2 : List UInt8 := [42, 27, 4, 182, 0, 68, 42, 28, 4, 182, 0, 71, 126, 21, 5, 184, 0, 74, 54, 4, 132, 5, 1]
abbrev dktX6_fitsFrom_2 : List UInt8 := dkwX6_fitsFrom_2 ++ dktX6_fitsFrom_3
def dkwX6_fitsFrom_1 : List UInt8 := [4, 54, 4, 29, 54, 5, 21, 5, 29, 42, 28, 3, 182, 0, 71, 96, 162, 0, 34, 21, 4, 153, 0, 29]
abbrev dktX6_fitsFrom_1 : List UInt8 := dkwX6_fitsFrom_1 ++ dktX6_fitsFrom_2
def dkwX6_fitsFrom_0 : List UInt8 := [42, 27, 28, 182, 0, 78, 153, 0, 16, 29, 42, 28, 3, 182, 0, 71, 96, 16, 8, 164, 0, 5, 3, 172]
abbrev dktX6_fitsFrom_0 : List UInt8 := dkwX6_fitsFrom_0 ++ dktX6_fitsFrom_1
theorem dksX6_fitsFrom_0 : cX6_fitsFrom.data.toList.drop 0 = dktX6_fitsFrom_0 := by decide +kernel
theorem dksX6_fitsFrom_1 : cX6_fitsFrom.data.toList.drop 24 = dktX6_fitsFrom_1 := dk_seg dksX6_fitsFrom_0 24 rfl rfl
theorem dksX6_fitsFrom_2 : cX6_fitsFrom.data.toList.drop 48 = dktX6_fitsFrom_2 := dk_seg dksX6_fitsFrom_1 24 rfl rfl
theorem dksX6_fitsFrom_3 : cX6_fitsFrom.data.toList.drop 71 = dktX6_fitsFrom_3 := dk_seg dksX6_fitsFrom_2 23 rfl rfl
theorem dX6_fitsFrom_0 : decode cX6_fitsFrom 0 = .ok (.aload_n 0, 1) := dk_42 (dk_at dksX6_fitsFrom_0 0 rfl rfl)
theorem dX6_fitsFrom_1 : decode cX6_fitsFrom 1 = .ok (.iload_n 1, 1) := dk_27 (dk_at dksX6_fitsFrom_0 1 rfl rfl)
theorem dX6_fitsFrom_2 : decode cX6_fitsFrom 2 = .ok (.iload_n 2, 1) := dk_28 (dk_at dksX6_fitsFrom_0 2 rfl rfl)
theorem dX6_fitsFrom_3 : decode cX6_fitsFrom 3 = .ok (.invokevirtual 78, 3) := dk_182 0 78 (dk_at dksX6_fitsFrom_0 3 rfl rfl)
theorem dX6_fitsFrom_6 : decode cX6_fitsFrom 6 = .ok (.ifCond .eq 16, 3) := dk_153 0 16 (dk_at dksX6_fitsFrom_0 6 rfl rfl)
theorem dX6_fitsFrom_9 : decode cX6_fitsFrom 9 = .ok (.iload_n 3, 1) := dk_29 (dk_at dksX6_fitsFrom_0 9 rfl rfl)
theorem dX6_fitsFrom_10 : decode cX6_fitsFrom 10 = .ok (.aload_n 0, 1) := dk_42 (dk_at dksX6_fitsFrom_0 10 rfl rfl)
theorem dX6_fitsFrom_11 : decode cX6_fitsFrom 11 = .ok (.iload_n 2, 1) := dk_28 (dk_at dksX6_fitsFrom_0 11 rfl rfl)
theorem dX6_fitsFrom_12 : decode cX6_fitsFrom 12 = .ok (.iconst 0, 1) := dk_3 (dk_at dksX6_fitsFrom_0 12 rfl rfl)
theorem dX6_fitsFrom_13 : decode cX6_fitsFrom 13 = .ok (.invokevirtual 71, 3) := dk_182 0 71 (dk_at dksX6_fitsFrom_0 13 rfl rfl)
theorem dX6_fitsFrom_16 : decode cX6_fitsFrom 16 = .ok (.iadd, 1) := dk_96 (dk_at dksX6_fitsFrom_0 16 rfl rfl)
theorem dX6_fitsFrom_17 : decode cX6_fitsFrom 17 = .ok (.bipush 8, 2) := dk_16 8 (dk_at dksX6_fitsFrom_0 17 rfl rfl)
theorem dX6_fitsFrom_19 : decode cX6_fitsFrom 19 = .ok (.if_icmp .le 5, 3) := dk_164 0 5 (dk_at dksX6_fitsFrom_0 19 rfl rfl)
theorem dX6_fitsFrom_22 : decode cX6_fitsFrom 22 = .ok (.iconst 0, 1) := dk_3 (dk_at dksX6_fitsFrom_0 22 rfl rfl)
theorem dX6_fitsFrom_23 : decode cX6_fitsFrom 23 = .ok (.ireturn, 1) := dk_172 (dk_at dksX6_fitsFrom_0 23 rfl rfl)
theorem dX6_fitsFrom_24 : decode cX6_fitsFrom 24 = .ok (.iconst 1, 1) := dk_4 (dk_at dksX6_fitsFrom_1 0 rfl rfl)
theorem dX6_fitsFrom_25 : decode cX6_fitsFrom 25 = .ok (.istore 4, 2) := dk_54 4 (dk_at dksX6_fitsFrom_1 1 rfl rfl)
theorem dX6_fitsFrom_27 : decode cX6_fitsFrom 27 = .ok (.iload_n 3, 1) := dk_29 (dk_at dksX6_fitsFrom_1 3 rfl rfl)
theorem dX6_fitsFrom_28 : decode cX6_fitsFrom 28 = .ok (.istore 5, 2) := dk_54 5 (dk_at dksX6_fitsFrom_1 4 rfl rfl)
theorem dX6_fitsFrom_30 : decode cX6_fitsFrom 30 = .ok (.iload 5, 2) := dk_21 5 (dk_at dksX6_fitsFrom_1 6 rfl rfl)
theorem dX6_fitsFrom_32 : decode cX6_fitsFrom 32 = .ok (.iload_n 3, 1) := dk_29 (dk_at dksX6_fitsFrom_1 8 rfl rfl)
theorem dX6_fitsFrom_33 : decode cX6_fitsFrom 33 = .ok (.aload_n 0, 1) := dk_42 (dk_at dksX6_fitsFrom_1 9 rfl rfl)
theorem dX6_fitsFrom_34 : decode cX6_fitsFrom 34 = .ok (.iload_n 2, 1) := dk_28 (dk_at dksX6_fitsFrom_1 10 rfl rfl)
theorem dX6_fitsFrom_35 : decode cX6_fitsFrom 35 = .ok (.iconst 0, 1) := dk_3 (dk_at dksX6_fitsFrom_1 11 rfl rfl)
theorem dX6_fitsFrom_36 : decode cX6_fitsFrom 36 = .ok (.invokevirtual 71, 3) := dk_182 0 71 (dk_at dksX6_fitsFrom_1 12 rfl rfl)
theorem dX6_fitsFrom_39 : decode cX6_fitsFrom 39 = .ok (.iadd, 1) := dk_96 (dk_at dksX6_fitsFrom_1 15 rfl rfl)
theorem dX6_fitsFrom_40 : decode cX6_fitsFrom 40 = .ok (.if_icmp .ge 34, 3) := dk_162 0 34 (dk_at dksX6_fitsFrom_1 16 rfl rfl)
theorem dX6_fitsFrom_43 : decode cX6_fitsFrom 43 = .ok (.iload 4, 2) := dk_21 4 (dk_at dksX6_fitsFrom_1 19 rfl rfl)
theorem dX6_fitsFrom_45 : decode cX6_fitsFrom 45 = .ok (.ifCond .eq 29, 3) := dk_153 0 29 (dk_at dksX6_fitsFrom_1 21 rfl rfl)
theorem dX6_fitsFrom_48 : decode cX6_fitsFrom 48 = .ok (.aload_n 0, 1) := dk_42 (dk_at dksX6_fitsFrom_2 0 rfl rfl)
theorem dX6_fitsFrom_49 : decode cX6_fitsFrom 49 = .ok (.iload_n 1, 1) := dk_27 (dk_at dksX6_fitsFrom_2 1 rfl rfl)
theorem dX6_fitsFrom_50 : decode cX6_fitsFrom 50 = .ok (.iconst 1, 1) := dk_4 (dk_at dksX6_fitsFrom_2 2 rfl rfl)
theorem dX6_fitsFrom_51 : decode cX6_fitsFrom 51 = .ok (.invokevirtual 68, 3) := dk_182 0 68 (dk_at dksX6_fitsFrom_2 3 rfl rfl)
theorem dX6_fitsFrom_54 : decode cX6_fitsFrom 54 = .ok (.aload_n 0, 1) := dk_42 (dk_at dksX6_fitsFrom_2 6 rfl rfl)
theorem dX6_fitsFrom_55 : decode cX6_fitsFrom 55 = .ok (.iload_n 2, 1) := dk_28 (dk_at dksX6_fitsFrom_2 7 rfl rfl)
theorem dX6_fitsFrom_56 : decode cX6_fitsFrom 56 = .ok (.iconst 1, 1) := dk_4 (dk_at dksX6_fitsFrom_2 8 rfl rfl)
theorem dX6_fitsFrom_57 : decode cX6_fitsFrom 57 = .ok (.invokevirtual 71, 3) := dk_182 0 71 (dk_at dksX6_fitsFrom_2 9 rfl rfl)
theorem dX6_fitsFrom_60 : decode cX6_fitsFrom 60 = .ok (.iand, 1) := dk_126 (dk_at dksX6_fitsFrom_2 12 rfl rfl)
theorem dX6_fitsFrom_61 : decode cX6_fitsFrom 61 = .ok (.iload 5, 2) := dk_21 5 (dk_at dksX6_fitsFrom_2 13 rfl rfl)
theorem dX6_fitsFrom_63 : decode cX6_fitsFrom 63 = .ok (.invokestatic 74, 3) := dk_184 0 74 (dk_at dksX6_fitsFrom_2 15 rfl rfl)
theorem dX6_fitsFrom_66 : decode cX6_fitsFrom 66 = .ok (.istore 4, 2) := dk_54 4 (dk_at dksX6_fitsFrom_2 18 rfl rfl)
theorem dX6_fitsFrom_68 : decode cX6_fitsFrom 68 = .ok (.iinc 5 1, 3) := dk_132 5 1 (dk_at dksX6_fitsFrom_2 20 rfl rfl)
theorem dX6_fitsFrom_71 : decode cX6_fitsFrom 71 = .ok (.goto (-41), 3) := dk_167 255 215 (dk_at dksX6_fitsFrom_3 0 rfl rfl)
theorem dX6_fitsFrom_74 : decode cX6_fitsFrom 74 = .ok (.iload 4, 2) := dk_21 4 (dk_at dksX6_fitsFrom_3 3 rfl rfl)
theorem dX6_fitsFrom_76 : decode cX6_fitsFrom 76 = .ok (.ireturn, 1) := dk_172 (dk_at dksX6_fitsFrom_3 5 rfl rfl)
abbrev cX6_afternoon : ByteArray := prog_19_method_103_code
def yX6_afternoon : MethodName := ⟨RX6, "afternoon", "(II)I"⟩
def dkwX6_afternoon_3 : List UInt8 := [42, 28, 42, 180, 0, 7, 7, 46, 27, 3, 182, 1, 137, 172]
abbrev dktX6_afternoon_3 : List UInt8 := dkwX6_afternoon_3 ++ []
def dkwX6_afternoon_2 : List UInt8 := [180, 0, 7, 7, 46, 27, 3, 182, 1, 133, 28, 2, 160, 0, 12, 42, 180, 0, 44, 3, 46, 167, 0, 16]
abbrev dktX6_afternoon_2 : List UInt8 := dkwX6_afternoon_2 ++ dktX6_afternoon_3
def dkwX6_afternoon_1 : List UInt8 := [167, 0, 4, 3, 181, 0, 54, 42, 180, 0, 54, 158, 0, 5, 3, 172, 42, 42, 180, 0, 7, 6, 46, 42]
abbrev dktX6_afternoon_1 : List UInt8 := dkwX6_afternoon_1 ++ dktX6_afternoon_2
def dkwX6_afternoon_0 : List UInt8 := [42, 27, 184, 1, 75, 153, 0, 16, 28, 2, 159, 0, 15, 42, 28, 182, 1, 54, 154, 0, 7, 4]
abbrev dktX6_afternoon_0 : List UInt8 := dkwX6_afternoon_0 ++ dktX6_afternoon_1
theorem dksX6_afternoon_0 : cX6_afternoon.data.toList.drop 0 = dktX6_afternoon_0 := by decide +kernel
theorem dksX6_afternoon_1 : cX6_afternoon.data.toList.drop 22 = dktX6_afternoon_1 := dk_seg dksX6_afternoon_0 22 rfl rfl
theorem dksX6_afternoon_2 : cX6_afternoon.data.toList.drop 46 = dktX6_afternoon_2 := dk_seg dksX6_afternoon_1 24 rfl rfl
theorem dksX6_afternoon_3 : cX6_afternoon.data.toList.drop 70 = dktX6_afternoon_3 := dk_seg dksX6_afternoon_2 24 rfl rfl
theorem dX6_afternoon_0 : decode cX6_afternoon 0 = .ok (.aload_n 0, 1) := dk_42 (dk_at dksX6_afternoon_0 0 rfl rfl)
theorem dX6_afternoon_1 : decode cX6_afternoon 1 = .ok (.iload_n 1, 1) := dk_27 (dk_at dksX6_afternoon_0 1 rfl rfl)
theorem dX6_afternoon_2 : decode cX6_afternoon 2 = .ok (.invokestatic 331, 3) := dk_184 1 75 (dk_at dksX6_afternoon_0 2 rfl rfl)
theorem dX6_afternoon_5 : decode cX6_afternoon 5 = .ok (.ifCond .eq 16, 3) := dk_153 0 16 (dk_at dksX6_afternoon_0 5 rfl rfl)
theorem dX6_afternoon_8 : decode cX6_afternoon 8 = .ok (.iload_n 2, 1) := dk_28 (dk_at dksX6_afternoon_0 8 rfl rfl)
theorem dX6_afternoon_9 : decode cX6_afternoon 9 = .ok (.iconst (-1), 1) := dk_2 (dk_at dksX6_afternoon_0 9 rfl rfl)
theorem dX6_afternoon_10 : decode cX6_afternoon 10 = .ok (.if_icmp .eq 15, 3) := dk_159 0 15 (dk_at dksX6_afternoon_0 10 rfl rfl)
theorem dX6_afternoon_13 : decode cX6_afternoon 13 = .ok (.aload_n 0, 1) := dk_42 (dk_at dksX6_afternoon_0 13 rfl rfl)
theorem dX6_afternoon_14 : decode cX6_afternoon 14 = .ok (.iload_n 2, 1) := dk_28 (dk_at dksX6_afternoon_0 14 rfl rfl)
theorem dX6_afternoon_15 : decode cX6_afternoon 15 = .ok (.invokevirtual 310, 3) := dk_182 1 54 (dk_at dksX6_afternoon_0 15 rfl rfl)
theorem dX6_afternoon_18 : decode cX6_afternoon 18 = .ok (.ifCond .ne 7, 3) := dk_154 0 7 (dk_at dksX6_afternoon_0 18 rfl rfl)
theorem dX6_afternoon_21 : decode cX6_afternoon 21 = .ok (.iconst 1, 1) := dk_4 (dk_at dksX6_afternoon_0 21 rfl rfl)
theorem dX6_afternoon_22 : decode cX6_afternoon 22 = .ok (.goto 4, 3) := dk_167 0 4 (dk_at dksX6_afternoon_1 0 rfl rfl)
theorem dX6_afternoon_25 : decode cX6_afternoon 25 = .ok (.iconst 0, 1) := dk_3 (dk_at dksX6_afternoon_1 3 rfl rfl)
theorem dX6_afternoon_26 : decode cX6_afternoon 26 = .ok (.putfield 54, 3) := dk_181 0 54 (dk_at dksX6_afternoon_1 4 rfl rfl)
theorem dX6_afternoon_29 : decode cX6_afternoon 29 = .ok (.aload_n 0, 1) := dk_42 (dk_at dksX6_afternoon_1 7 rfl rfl)
theorem dX6_afternoon_30 : decode cX6_afternoon 30 = .ok (.getfield 54, 3) := dk_180 0 54 (dk_at dksX6_afternoon_1 8 rfl rfl)
theorem dX6_afternoon_33 : decode cX6_afternoon 33 = .ok (.ifCond .le 5, 3) := dk_158 0 5 (dk_at dksX6_afternoon_1 11 rfl rfl)
theorem dX6_afternoon_36 : decode cX6_afternoon 36 = .ok (.iconst 0, 1) := dk_3 (dk_at dksX6_afternoon_1 14 rfl rfl)
theorem dX6_afternoon_37 : decode cX6_afternoon 37 = .ok (.ireturn, 1) := dk_172 (dk_at dksX6_afternoon_1 15 rfl rfl)
theorem dX6_afternoon_38 : decode cX6_afternoon 38 = .ok (.aload_n 0, 1) := dk_42 (dk_at dksX6_afternoon_1 16 rfl rfl)
theorem dX6_afternoon_39 : decode cX6_afternoon 39 = .ok (.aload_n 0, 1) := dk_42 (dk_at dksX6_afternoon_1 17 rfl rfl)
theorem dX6_afternoon_40 : decode cX6_afternoon 40 = .ok (.getfield 7, 3) := dk_180 0 7 (dk_at dksX6_afternoon_1 18 rfl rfl)
theorem dX6_afternoon_43 : decode cX6_afternoon 43 = .ok (.iconst 3, 1) := dk_6 (dk_at dksX6_afternoon_1 21 rfl rfl)
theorem dX6_afternoon_44 : decode cX6_afternoon 44 = .ok (.iaload, 1) := dk_46 (dk_at dksX6_afternoon_1 22 rfl rfl)
theorem dX6_afternoon_45 : decode cX6_afternoon 45 = .ok (.aload_n 0, 1) := dk_42 (dk_at dksX6_afternoon_1 23 rfl rfl)
theorem dX6_afternoon_46 : decode cX6_afternoon 46 = .ok (.getfield 7, 3) := dk_180 0 7 (dk_at dksX6_afternoon_2 0 rfl rfl)
theorem dX6_afternoon_49 : decode cX6_afternoon 49 = .ok (.iconst 4, 1) := dk_7 (dk_at dksX6_afternoon_2 3 rfl rfl)
theorem dX6_afternoon_50 : decode cX6_afternoon 50 = .ok (.iaload, 1) := dk_46 (dk_at dksX6_afternoon_2 4 rfl rfl)
theorem dX6_afternoon_51 : decode cX6_afternoon 51 = .ok (.iload_n 1, 1) := dk_27 (dk_at dksX6_afternoon_2 5 rfl rfl)
theorem dX6_afternoon_52 : decode cX6_afternoon 52 = .ok (.iconst 0, 1) := dk_3 (dk_at dksX6_afternoon_2 6 rfl rfl)
theorem dX6_afternoon_53 : decode cX6_afternoon 53 = .ok (.invokevirtual 389, 3) := dk_182 1 133 (dk_at dksX6_afternoon_2 7 rfl rfl)
theorem dX6_afternoon_56 : decode cX6_afternoon 56 = .ok (.iload_n 2, 1) := dk_28 (dk_at dksX6_afternoon_2 10 rfl rfl)
theorem dX6_afternoon_57 : decode cX6_afternoon 57 = .ok (.iconst (-1), 1) := dk_2 (dk_at dksX6_afternoon_2 11 rfl rfl)
theorem dX6_afternoon_58 : decode cX6_afternoon 58 = .ok (.if_icmp .ne 12, 3) := dk_160 0 12 (dk_at dksX6_afternoon_2 12 rfl rfl)
theorem dX6_afternoon_61 : decode cX6_afternoon 61 = .ok (.aload_n 0, 1) := dk_42 (dk_at dksX6_afternoon_2 15 rfl rfl)
theorem dX6_afternoon_62 : decode cX6_afternoon 62 = .ok (.getfield 44, 3) := dk_180 0 44 (dk_at dksX6_afternoon_2 16 rfl rfl)
theorem dX6_afternoon_65 : decode cX6_afternoon 65 = .ok (.iconst 0, 1) := dk_3 (dk_at dksX6_afternoon_2 19 rfl rfl)
theorem dX6_afternoon_66 : decode cX6_afternoon 66 = .ok (.iaload, 1) := dk_46 (dk_at dksX6_afternoon_2 20 rfl rfl)
theorem dX6_afternoon_67 : decode cX6_afternoon 67 = .ok (.goto 16, 3) := dk_167 0 16 (dk_at dksX6_afternoon_2 21 rfl rfl)
theorem dX6_afternoon_70 : decode cX6_afternoon 70 = .ok (.aload_n 0, 1) := dk_42 (dk_at dksX6_afternoon_3 0 rfl rfl)
theorem dX6_afternoon_71 : decode cX6_afternoon 71 = .ok (.iload_n 2, 1) := dk_28 (dk_at dksX6_afternoon_3 1 rfl rfl)
theorem dX6_afternoon_72 : decode cX6_afternoon 72 = .ok (.aload_n 0, 1) := dk_42 (dk_at dksX6_afternoon_3 2 rfl rfl)
theorem dX6_afternoon_73 : decode cX6_afternoon 73 = .ok (.getfield 7, 3) := dk_180 0 7 (dk_at dksX6_afternoon_3 3 rfl rfl)
theorem dX6_afternoon_76 : decode cX6_afternoon 76 = .ok (.iconst 4, 1) := dk_7 (dk_at dksX6_afternoon_3 6 rfl rfl)
theorem dX6_afternoon_77 : decode cX6_afternoon 77 = .ok (.iaload, 1) := dk_46 (dk_at dksX6_afternoon_3 7 rfl rfl)
theorem dX6_afternoon_78 : decode cX6_afternoon 78 = .ok (.iload_n 1, 1) := dk_27 (dk_at dksX6_afternoon_3 8 rfl rfl)
theorem dX6_afternoon_79 : decode cX6_afternoon 79 = .ok (.iconst 0, 1) := dk_3 (dk_at dksX6_afternoon_3 9 rfl rfl)
theorem dX6_afternoon_80 : decode cX6_afternoon 80 = .ok (.invokevirtual 393, 3) := dk_182 1 137 (dk_at dksX6_afternoon_3 10 rfl rfl)
theorem dX6_afternoon_83 : decode cX6_afternoon 83 = .ok (.ireturn, 1) := dk_172 (dk_at dksX6_afternoon_3 13 rfl rfl)
abbrev cX6_fills : ByteArray := prog_19_method_101_code
def yX6_fills : MethodName := ⟨RX6, "fills", "(IIII)V"⟩
def dkwX6_fills_7 : List UInt8 := [132, 6, 1, 167, 255, 132, 132, 5, 255, 167, 255, 118, 177]
abbrev dktX6_fills_7 : List UInt8 := dkwX6_fills_7 ++ []
def dkwX6_fills_6 : List UInt8 := [54, 7, 132, 8, 1, 167, 255, 183, 42, 180, 0, 44, 17, 1, 0, 21, 5, 104, 21, 6, 96, 21, 7, 79]
abbrev dktX6_fills_6 : List UInt8 := dkwX6_fills_6 ++ dktX6_fills_7
def dkwX6_fills_5 : List UInt8 := [180, 0, 44, 17, 1, 0, 21, 5, 4, 96, 104, 21, 6, 4, 21, 8, 120, 128, 96, 46, 96, 184, 1, 21]
abbrev dktX6_fills_5 : List UInt8 := dkwX6_fills_5 ++ dktX6_fills_6
def dkwX6_fills_4 : List UInt8 := [21, 5, 21, 8, 29, 21, 4, 182, 1, 129, 54, 9, 21, 9, 2, 159, 0, 34, 21, 7, 21, 9, 42]
abbrev dktX6_fills_4 : List UInt8 := dkwX6_fills_4 ++ dktX6_fills_5
def dkwX6_fills_3 : List UInt8 := [3, 54, 8, 21, 8, 28, 162, 0, 73, 21, 6, 21, 8, 184, 0, 74, 153, 0, 7, 2, 167, 0, 14, 42]
abbrev dktX6_fills_3 : List UInt8 := dkwX6_fills_3 ++ dktX6_fills_4
def dkwX6_fills_2 : List UInt8 := [17, 1, 0, 162, 0, 122, 42, 180, 0, 44, 17, 1, 0, 21, 5, 4, 96, 104, 21, 6, 96, 46, 54, 7]
abbrev dktX6_fills_2 : List UInt8 := dkwX6_fills_2 ++ dktX6_fills_3
def dkwX6_fills_1 : List UInt8 := [79, 132, 5, 1, 167, 255, 231, 27, 4, 100, 54, 5, 21, 5, 155, 0, 139, 3, 54, 6, 21, 6]
abbrev dktX6_fills_1 : List UInt8 := dkwX6_fills_1 ++ dktX6_fills_2
def dkwX6_fills_0 : List UInt8 := [3, 54, 5, 21, 5, 17, 1, 0, 162, 0, 23, 42, 180, 0, 44, 17, 1, 0, 27, 104, 21, 5, 96, 3]
abbrev dktX6_fills_0 : List UInt8 := dkwX6_fills_0 ++ dktX6_fills_1
theorem dksX6_fills_0 : cX6_fills.data.toList.drop 0 = dktX6_fills_0 := by decide +kernel
theorem dksX6_fills_1 : cX6_fills.data.toList.drop 24 = dktX6_fills_1 := dk_seg dksX6_fills_0 24 rfl rfl
theorem dksX6_fills_2 : cX6_fills.data.toList.drop 46 = dktX6_fills_2 := dk_seg dksX6_fills_1 22 rfl rfl
theorem dksX6_fills_3 : cX6_fills.data.toList.drop 70 = dktX6_fills_3 := dk_seg dksX6_fills_2 24 rfl rfl
theorem dksX6_fills_4 : cX6_fills.data.toList.drop 94 = dktX6_fills_4 := dk_seg dksX6_fills_3 24 rfl rfl
theorem dksX6_fills_5 : cX6_fills.data.toList.drop 117 = dktX6_fills_5 := dk_seg dksX6_fills_4 23 rfl rfl
theorem dksX6_fills_6 : cX6_fills.data.toList.drop 141 = dktX6_fills_6 := dk_seg dksX6_fills_5 24 rfl rfl
theorem dksX6_fills_7 : cX6_fills.data.toList.drop 165 = dktX6_fills_7 := dk_seg dksX6_fills_6 24 rfl rfl
theorem dX6_fills_0 : decode cX6_fills 0 = .ok (.iconst 0, 1) := dk_3 (dk_at dksX6_fills_0 0 rfl rfl)
theorem dX6_fills_1 : decode cX6_fills 1 = .ok (.istore 5, 2) := dk_54 5 (dk_at dksX6_fills_0 1 rfl rfl)
theorem dX6_fills_3 : decode cX6_fills 3 = .ok (.iload 5, 2) := dk_21 5 (dk_at dksX6_fills_0 3 rfl rfl)
theorem dX6_fills_5 : decode cX6_fills 5 = .ok (.sipush 256, 3) := dk_17 1 0 (dk_at dksX6_fills_0 5 rfl rfl)
theorem dX6_fills_8 : decode cX6_fills 8 = .ok (.if_icmp .ge 23, 3) := dk_162 0 23 (dk_at dksX6_fills_0 8 rfl rfl)
theorem dX6_fills_11 : decode cX6_fills 11 = .ok (.aload_n 0, 1) := dk_42 (dk_at dksX6_fills_0 11 rfl rfl)
theorem dX6_fills_12 : decode cX6_fills 12 = .ok (.getfield 44, 3) := dk_180 0 44 (dk_at dksX6_fills_0 12 rfl rfl)
theorem dX6_fills_15 : decode cX6_fills 15 = .ok (.sipush 256, 3) := dk_17 1 0 (dk_at dksX6_fills_0 15 rfl rfl)
theorem dX6_fills_18 : decode cX6_fills 18 = .ok (.iload_n 1, 1) := dk_27 (dk_at dksX6_fills_0 18 rfl rfl)
theorem dX6_fills_19 : decode cX6_fills 19 = .ok (.imul, 1) := dk_104 (dk_at dksX6_fills_0 19 rfl rfl)
theorem dX6_fills_20 : decode cX6_fills 20 = .ok (.iload 5, 2) := dk_21 5 (dk_at dksX6_fills_0 20 rfl rfl)
theorem dX6_fills_22 : decode cX6_fills 22 = .ok (.iadd, 1) := dk_96 (dk_at dksX6_fills_0 22 rfl rfl)
theorem dX6_fills_23 : decode cX6_fills 23 = .ok (.iconst 0, 1) := dk_3 (dk_at dksX6_fills_0 23 rfl rfl)
theorem dX6_fills_24 : decode cX6_fills 24 = .ok (.iastore, 1) := dk_79 (dk_at dksX6_fills_1 0 rfl rfl)
theorem dX6_fills_25 : decode cX6_fills 25 = .ok (.iinc 5 1, 3) := dk_132 5 1 (dk_at dksX6_fills_1 1 rfl rfl)
theorem dX6_fills_28 : decode cX6_fills 28 = .ok (.goto (-25), 3) := dk_167 255 231 (dk_at dksX6_fills_1 4 rfl rfl)
theorem dX6_fills_31 : decode cX6_fills 31 = .ok (.iload_n 1, 1) := dk_27 (dk_at dksX6_fills_1 7 rfl rfl)
theorem dX6_fills_32 : decode cX6_fills 32 = .ok (.iconst 1, 1) := dk_4 (dk_at dksX6_fills_1 8 rfl rfl)
theorem dX6_fills_33 : decode cX6_fills 33 = .ok (.isub, 1) := dk_100 (dk_at dksX6_fills_1 9 rfl rfl)
theorem dX6_fills_34 : decode cX6_fills 34 = .ok (.istore 5, 2) := dk_54 5 (dk_at dksX6_fills_1 10 rfl rfl)
theorem dX6_fills_36 : decode cX6_fills 36 = .ok (.iload 5, 2) := dk_21 5 (dk_at dksX6_fills_1 12 rfl rfl)
theorem dX6_fills_38 : decode cX6_fills 38 = .ok (.ifCond .lt 139, 3) := dk_155 0 139 (dk_at dksX6_fills_1 14 rfl rfl)
theorem dX6_fills_41 : decode cX6_fills 41 = .ok (.iconst 0, 1) := dk_3 (dk_at dksX6_fills_1 17 rfl rfl)
theorem dX6_fills_42 : decode cX6_fills 42 = .ok (.istore 6, 2) := dk_54 6 (dk_at dksX6_fills_1 18 rfl rfl)
theorem dX6_fills_44 : decode cX6_fills 44 = .ok (.iload 6, 2) := dk_21 6 (dk_at dksX6_fills_1 20 rfl rfl)
theorem dX6_fills_46 : decode cX6_fills 46 = .ok (.sipush 256, 3) := dk_17 1 0 (dk_at dksX6_fills_2 0 rfl rfl)
theorem dX6_fills_49 : decode cX6_fills 49 = .ok (.if_icmp .ge 122, 3) := dk_162 0 122 (dk_at dksX6_fills_2 3 rfl rfl)
theorem dX6_fills_52 : decode cX6_fills 52 = .ok (.aload_n 0, 1) := dk_42 (dk_at dksX6_fills_2 6 rfl rfl)
theorem dX6_fills_53 : decode cX6_fills 53 = .ok (.getfield 44, 3) := dk_180 0 44 (dk_at dksX6_fills_2 7 rfl rfl)
theorem dX6_fills_56 : decode cX6_fills 56 = .ok (.sipush 256, 3) := dk_17 1 0 (dk_at dksX6_fills_2 10 rfl rfl)
theorem dX6_fills_59 : decode cX6_fills 59 = .ok (.iload 5, 2) := dk_21 5 (dk_at dksX6_fills_2 13 rfl rfl)
theorem dX6_fills_61 : decode cX6_fills 61 = .ok (.iconst 1, 1) := dk_4 (dk_at dksX6_fills_2 15 rfl rfl)
theorem dX6_fills_62 : decode cX6_fills 62 = .ok (.iadd, 1) := dk_96 (dk_at dksX6_fills_2 16 rfl rfl)
theorem dX6_fills_63 : decode cX6_fills 63 = .ok (.imul, 1) := dk_104 (dk_at dksX6_fills_2 17 rfl rfl)
theorem dX6_fills_64 : decode cX6_fills 64 = .ok (.iload 6, 2) := dk_21 6 (dk_at dksX6_fills_2 18 rfl rfl)
theorem dX6_fills_66 : decode cX6_fills 66 = .ok (.iadd, 1) := dk_96 (dk_at dksX6_fills_2 20 rfl rfl)
theorem dX6_fills_67 : decode cX6_fills 67 = .ok (.iaload, 1) := dk_46 (dk_at dksX6_fills_2 21 rfl rfl)
theorem dX6_fills_68 : decode cX6_fills 68 = .ok (.istore 7, 2) := dk_54 7 (dk_at dksX6_fills_2 22 rfl rfl)
theorem dX6_fills_70 : decode cX6_fills 70 = .ok (.iconst 0, 1) := dk_3 (dk_at dksX6_fills_3 0 rfl rfl)
theorem dX6_fills_71 : decode cX6_fills 71 = .ok (.istore 8, 2) := dk_54 8 (dk_at dksX6_fills_3 1 rfl rfl)
theorem dX6_fills_73 : decode cX6_fills 73 = .ok (.iload 8, 2) := dk_21 8 (dk_at dksX6_fills_3 3 rfl rfl)
theorem dX6_fills_75 : decode cX6_fills 75 = .ok (.iload_n 2, 1) := dk_28 (dk_at dksX6_fills_3 5 rfl rfl)
theorem dX6_fills_76 : decode cX6_fills 76 = .ok (.if_icmp .ge 73, 3) := dk_162 0 73 (dk_at dksX6_fills_3 6 rfl rfl)
theorem dX6_fills_79 : decode cX6_fills 79 = .ok (.iload 6, 2) := dk_21 6 (dk_at dksX6_fills_3 9 rfl rfl)
theorem dX6_fills_81 : decode cX6_fills 81 = .ok (.iload 8, 2) := dk_21 8 (dk_at dksX6_fills_3 11 rfl rfl)
theorem dX6_fills_83 : decode cX6_fills 83 = .ok (.invokestatic 74, 3) := dk_184 0 74 (dk_at dksX6_fills_3 13 rfl rfl)
theorem dX6_fills_86 : decode cX6_fills 86 = .ok (.ifCond .eq 7, 3) := dk_153 0 7 (dk_at dksX6_fills_3 16 rfl rfl)
theorem dX6_fills_89 : decode cX6_fills 89 = .ok (.iconst (-1), 1) := dk_2 (dk_at dksX6_fills_3 19 rfl rfl)
theorem dX6_fills_90 : decode cX6_fills 90 = .ok (.goto 14, 3) := dk_167 0 14 (dk_at dksX6_fills_3 20 rfl rfl)
theorem dX6_fills_93 : decode cX6_fills 93 = .ok (.aload_n 0, 1) := dk_42 (dk_at dksX6_fills_3 23 rfl rfl)
theorem dX6_fills_94 : decode cX6_fills 94 = .ok (.iload 5, 2) := dk_21 5 (dk_at dksX6_fills_4 0 rfl rfl)
theorem dX6_fills_96 : decode cX6_fills 96 = .ok (.iload 8, 2) := dk_21 8 (dk_at dksX6_fills_4 2 rfl rfl)
theorem dX6_fills_98 : decode cX6_fills 98 = .ok (.iload_n 3, 1) := dk_29 (dk_at dksX6_fills_4 4 rfl rfl)
theorem dX6_fills_99 : decode cX6_fills 99 = .ok (.iload 4, 2) := dk_21 4 (dk_at dksX6_fills_4 5 rfl rfl)
theorem dX6_fills_101 : decode cX6_fills 101 = .ok (.invokevirtual 385, 3) := dk_182 1 129 (dk_at dksX6_fills_4 7 rfl rfl)
theorem dX6_fills_104 : decode cX6_fills 104 = .ok (.istore 9, 2) := dk_54 9 (dk_at dksX6_fills_4 10 rfl rfl)
theorem dX6_fills_106 : decode cX6_fills 106 = .ok (.iload 9, 2) := dk_21 9 (dk_at dksX6_fills_4 12 rfl rfl)
theorem dX6_fills_108 : decode cX6_fills 108 = .ok (.iconst (-1), 1) := dk_2 (dk_at dksX6_fills_4 14 rfl rfl)
theorem dX6_fills_109 : decode cX6_fills 109 = .ok (.if_icmp .eq 34, 3) := dk_159 0 34 (dk_at dksX6_fills_4 15 rfl rfl)
theorem dX6_fills_112 : decode cX6_fills 112 = .ok (.iload 7, 2) := dk_21 7 (dk_at dksX6_fills_4 18 rfl rfl)
theorem dX6_fills_114 : decode cX6_fills 114 = .ok (.iload 9, 2) := dk_21 9 (dk_at dksX6_fills_4 20 rfl rfl)
theorem dX6_fills_116 : decode cX6_fills 116 = .ok (.aload_n 0, 1) := dk_42 (dk_at dksX6_fills_4 22 rfl rfl)
theorem dX6_fills_117 : decode cX6_fills 117 = .ok (.getfield 44, 3) := dk_180 0 44 (dk_at dksX6_fills_5 0 rfl rfl)
theorem dX6_fills_120 : decode cX6_fills 120 = .ok (.sipush 256, 3) := dk_17 1 0 (dk_at dksX6_fills_5 3 rfl rfl)
theorem dX6_fills_123 : decode cX6_fills 123 = .ok (.iload 5, 2) := dk_21 5 (dk_at dksX6_fills_5 6 rfl rfl)
theorem dX6_fills_125 : decode cX6_fills 125 = .ok (.iconst 1, 1) := dk_4 (dk_at dksX6_fills_5 8 rfl rfl)
theorem dX6_fills_126 : decode cX6_fills 126 = .ok (.iadd, 1) := dk_96 (dk_at dksX6_fills_5 9 rfl rfl)
theorem dX6_fills_127 : decode cX6_fills 127 = .ok (.imul, 1) := dk_104 (dk_at dksX6_fills_5 10 rfl rfl)
theorem dX6_fills_128 : decode cX6_fills 128 = .ok (.iload 6, 2) := dk_21 6 (dk_at dksX6_fills_5 11 rfl rfl)
theorem dX6_fills_130 : decode cX6_fills 130 = .ok (.iconst 1, 1) := dk_4 (dk_at dksX6_fills_5 13 rfl rfl)
theorem dX6_fills_131 : decode cX6_fills 131 = .ok (.iload 8, 2) := dk_21 8 (dk_at dksX6_fills_5 14 rfl rfl)
theorem dX6_fills_133 : decode cX6_fills 133 = .ok (.ishl, 1) := dk_120 (dk_at dksX6_fills_5 16 rfl rfl)
theorem dX6_fills_134 : decode cX6_fills 134 = .ok (.ior, 1) := dk_128 (dk_at dksX6_fills_5 17 rfl rfl)
theorem dX6_fills_135 : decode cX6_fills 135 = .ok (.iadd, 1) := dk_96 (dk_at dksX6_fills_5 18 rfl rfl)
theorem dX6_fills_136 : decode cX6_fills 136 = .ok (.iaload, 1) := dk_46 (dk_at dksX6_fills_5 19 rfl rfl)
theorem dX6_fills_137 : decode cX6_fills 137 = .ok (.iadd, 1) := dk_96 (dk_at dksX6_fills_5 20 rfl rfl)
theorem dX6_fills_138 : decode cX6_fills 138 = .ok (.invokestatic 277, 3) := dk_184 1 21 (dk_at dksX6_fills_5 21 rfl rfl)
theorem dX6_fills_141 : decode cX6_fills 141 = .ok (.istore 7, 2) := dk_54 7 (dk_at dksX6_fills_6 0 rfl rfl)
theorem dX6_fills_143 : decode cX6_fills 143 = .ok (.iinc 8 1, 3) := dk_132 8 1 (dk_at dksX6_fills_6 2 rfl rfl)
theorem dX6_fills_146 : decode cX6_fills 146 = .ok (.goto (-73), 3) := dk_167 255 183 (dk_at dksX6_fills_6 5 rfl rfl)
theorem dX6_fills_149 : decode cX6_fills 149 = .ok (.aload_n 0, 1) := dk_42 (dk_at dksX6_fills_6 8 rfl rfl)
theorem dX6_fills_150 : decode cX6_fills 150 = .ok (.getfield 44, 3) := dk_180 0 44 (dk_at dksX6_fills_6 9 rfl rfl)
theorem dX6_fills_153 : decode cX6_fills 153 = .ok (.sipush 256, 3) := dk_17 1 0 (dk_at dksX6_fills_6 12 rfl rfl)
theorem dX6_fills_156 : decode cX6_fills 156 = .ok (.iload 5, 2) := dk_21 5 (dk_at dksX6_fills_6 15 rfl rfl)
theorem dX6_fills_158 : decode cX6_fills 158 = .ok (.imul, 1) := dk_104 (dk_at dksX6_fills_6 17 rfl rfl)
theorem dX6_fills_159 : decode cX6_fills 159 = .ok (.iload 6, 2) := dk_21 6 (dk_at dksX6_fills_6 18 rfl rfl)
theorem dX6_fills_161 : decode cX6_fills 161 = .ok (.iadd, 1) := dk_96 (dk_at dksX6_fills_6 20 rfl rfl)
theorem dX6_fills_162 : decode cX6_fills 162 = .ok (.iload 7, 2) := dk_21 7 (dk_at dksX6_fills_6 21 rfl rfl)
theorem dX6_fills_164 : decode cX6_fills 164 = .ok (.iastore, 1) := dk_79 (dk_at dksX6_fills_6 23 rfl rfl)
theorem dX6_fills_165 : decode cX6_fills 165 = .ok (.iinc 6 1, 3) := dk_132 6 1 (dk_at dksX6_fills_7 0 rfl rfl)
theorem dX6_fills_168 : decode cX6_fills 168 = .ok (.goto (-124), 3) := dk_167 255 132 (dk_at dksX6_fills_7 3 rfl rfl)
theorem dX6_fills_171 : decode cX6_fills 171 = .ok (.iinc 5 (-1), 3) := dk_132 5 255 (dk_at dksX6_fills_7 6 rfl rfl)
theorem dX6_fills_174 : decode cX6_fills 174 = .ok (.goto (-138), 3) := dk_167 255 118 (dk_at dksX6_fills_7 9 rfl rfl)
theorem dX6_fills_177 : decode cX6_fills 177 = .ok (.return_, 1) := dk_177 (dk_at dksX6_fills_7 12 rfl rfl)
abbrev cX6_brings : ByteArray := prog_19_method_100_code
def yX6_brings : MethodName := ⟨RX6, "brings", "(IIII)I"⟩
def dkwX6_brings_3 : List UInt8 := [182, 0, 61, 167, 0, 4, 2, 172]
abbrev dktX6_brings_3 : List UInt8 := dkwX6_brings_3 ++ []
def dkwX6_brings_2 : List UInt8 := [27, 182, 0, 78, 153, 0, 7, 4, 167, 0, 4, 3, 54, 5, 21, 5, 153, 0, 12, 42, 28, 27]
abbrev dktX6_brings_2 : List UInt8 := dkwX6_brings_2 ++ dktX6_brings_3
def dkwX6_brings_1 : List UInt8 := [184, 0, 74, 153, 0, 32, 42, 28, 182, 1, 60, 154, 0, 24, 42, 27, 182, 1, 69, 154, 0, 16, 42, 28]
abbrev dktX6_brings_1 : List UInt8 := dkwX6_brings_1 ++ dktX6_brings_2
def dkwX6_brings_0 : List UInt8 := [29, 2, 159, 0, 19, 42, 27, 28, 29, 182, 1, 24, 153, 0, 7, 4, 167, 0, 4, 2, 172, 21, 4, 28]
abbrev dktX6_brings_0 : List UInt8 := dkwX6_brings_0 ++ dktX6_brings_1
theorem dksX6_brings_0 : cX6_brings.data.toList.drop 0 = dktX6_brings_0 := by decide +kernel
theorem dksX6_brings_1 : cX6_brings.data.toList.drop 24 = dktX6_brings_1 := dk_seg dksX6_brings_0 24 rfl rfl
theorem dksX6_brings_2 : cX6_brings.data.toList.drop 48 = dktX6_brings_2 := dk_seg dksX6_brings_1 24 rfl rfl
theorem dksX6_brings_3 : cX6_brings.data.toList.drop 70 = dktX6_brings_3 := dk_seg dksX6_brings_2 22 rfl rfl
theorem dX6_brings_0 : decode cX6_brings 0 = .ok (.iload_n 3, 1) := dk_29 (dk_at dksX6_brings_0 0 rfl rfl)
theorem dX6_brings_1 : decode cX6_brings 1 = .ok (.iconst (-1), 1) := dk_2 (dk_at dksX6_brings_0 1 rfl rfl)
theorem dX6_brings_2 : decode cX6_brings 2 = .ok (.if_icmp .eq 19, 3) := dk_159 0 19 (dk_at dksX6_brings_0 2 rfl rfl)
theorem dX6_brings_5 : decode cX6_brings 5 = .ok (.aload_n 0, 1) := dk_42 (dk_at dksX6_brings_0 5 rfl rfl)
theorem dX6_brings_6 : decode cX6_brings 6 = .ok (.iload_n 1, 1) := dk_27 (dk_at dksX6_brings_0 6 rfl rfl)
theorem dX6_brings_7 : decode cX6_brings 7 = .ok (.iload_n 2, 1) := dk_28 (dk_at dksX6_brings_0 7 rfl rfl)
theorem dX6_brings_8 : decode cX6_brings 8 = .ok (.iload_n 3, 1) := dk_29 (dk_at dksX6_brings_0 8 rfl rfl)
theorem dX6_brings_9 : decode cX6_brings 9 = .ok (.invokevirtual 280, 3) := dk_182 1 24 (dk_at dksX6_brings_0 9 rfl rfl)
theorem dX6_brings_12 : decode cX6_brings 12 = .ok (.ifCond .eq 7, 3) := dk_153 0 7 (dk_at dksX6_brings_0 12 rfl rfl)
theorem dX6_brings_15 : decode cX6_brings 15 = .ok (.iconst 1, 1) := dk_4 (dk_at dksX6_brings_0 15 rfl rfl)
theorem dX6_brings_16 : decode cX6_brings 16 = .ok (.goto 4, 3) := dk_167 0 4 (dk_at dksX6_brings_0 16 rfl rfl)
theorem dX6_brings_19 : decode cX6_brings 19 = .ok (.iconst (-1), 1) := dk_2 (dk_at dksX6_brings_0 19 rfl rfl)
theorem dX6_brings_20 : decode cX6_brings 20 = .ok (.ireturn, 1) := dk_172 (dk_at dksX6_brings_0 20 rfl rfl)
theorem dX6_brings_21 : decode cX6_brings 21 = .ok (.iload 4, 2) := dk_21 4 (dk_at dksX6_brings_0 21 rfl rfl)
theorem dX6_brings_23 : decode cX6_brings 23 = .ok (.iload_n 2, 1) := dk_28 (dk_at dksX6_brings_0 23 rfl rfl)
theorem dX6_brings_24 : decode cX6_brings 24 = .ok (.invokestatic 74, 3) := dk_184 0 74 (dk_at dksX6_brings_1 0 rfl rfl)
theorem dX6_brings_27 : decode cX6_brings 27 = .ok (.ifCond .eq 32, 3) := dk_153 0 32 (dk_at dksX6_brings_1 3 rfl rfl)
theorem dX6_brings_30 : decode cX6_brings 30 = .ok (.aload_n 0, 1) := dk_42 (dk_at dksX6_brings_1 6 rfl rfl)
theorem dX6_brings_31 : decode cX6_brings 31 = .ok (.iload_n 2, 1) := dk_28 (dk_at dksX6_brings_1 7 rfl rfl)
theorem dX6_brings_32 : decode cX6_brings 32 = .ok (.invokevirtual 316, 3) := dk_182 1 60 (dk_at dksX6_brings_1 8 rfl rfl)
theorem dX6_brings_35 : decode cX6_brings 35 = .ok (.ifCond .ne 24, 3) := dk_154 0 24 (dk_at dksX6_brings_1 11 rfl rfl)
theorem dX6_brings_38 : decode cX6_brings 38 = .ok (.aload_n 0, 1) := dk_42 (dk_at dksX6_brings_1 14 rfl rfl)
theorem dX6_brings_39 : decode cX6_brings 39 = .ok (.iload_n 1, 1) := dk_27 (dk_at dksX6_brings_1 15 rfl rfl)
theorem dX6_brings_40 : decode cX6_brings 40 = .ok (.invokevirtual 325, 3) := dk_182 1 69 (dk_at dksX6_brings_1 16 rfl rfl)
theorem dX6_brings_43 : decode cX6_brings 43 = .ok (.ifCond .ne 16, 3) := dk_154 0 16 (dk_at dksX6_brings_1 19 rfl rfl)
theorem dX6_brings_46 : decode cX6_brings 46 = .ok (.aload_n 0, 1) := dk_42 (dk_at dksX6_brings_1 22 rfl rfl)
theorem dX6_brings_47 : decode cX6_brings 47 = .ok (.iload_n 2, 1) := dk_28 (dk_at dksX6_brings_1 23 rfl rfl)
theorem dX6_brings_48 : decode cX6_brings 48 = .ok (.iload_n 1, 1) := dk_27 (dk_at dksX6_brings_2 0 rfl rfl)
theorem dX6_brings_49 : decode cX6_brings 49 = .ok (.invokevirtual 78, 3) := dk_182 0 78 (dk_at dksX6_brings_2 1 rfl rfl)
theorem dX6_brings_52 : decode cX6_brings 52 = .ok (.ifCond .eq 7, 3) := dk_153 0 7 (dk_at dksX6_brings_2 4 rfl rfl)
theorem dX6_brings_55 : decode cX6_brings 55 = .ok (.iconst 1, 1) := dk_4 (dk_at dksX6_brings_2 7 rfl rfl)
theorem dX6_brings_56 : decode cX6_brings 56 = .ok (.goto 4, 3) := dk_167 0 4 (dk_at dksX6_brings_2 8 rfl rfl)
theorem dX6_brings_59 : decode cX6_brings 59 = .ok (.iconst 0, 1) := dk_3 (dk_at dksX6_brings_2 11 rfl rfl)
theorem dX6_brings_60 : decode cX6_brings 60 = .ok (.istore 5, 2) := dk_54 5 (dk_at dksX6_brings_2 12 rfl rfl)
theorem dX6_brings_62 : decode cX6_brings 62 = .ok (.iload 5, 2) := dk_21 5 (dk_at dksX6_brings_2 14 rfl rfl)
theorem dX6_brings_64 : decode cX6_brings 64 = .ok (.ifCond .eq 12, 3) := dk_153 0 12 (dk_at dksX6_brings_2 16 rfl rfl)
theorem dX6_brings_67 : decode cX6_brings 67 = .ok (.aload_n 0, 1) := dk_42 (dk_at dksX6_brings_2 19 rfl rfl)
theorem dX6_brings_68 : decode cX6_brings 68 = .ok (.iload_n 2, 1) := dk_28 (dk_at dksX6_brings_2 20 rfl rfl)
theorem dX6_brings_69 : decode cX6_brings 69 = .ok (.iload_n 1, 1) := dk_27 (dk_at dksX6_brings_2 21 rfl rfl)
theorem dX6_brings_70 : decode cX6_brings 70 = .ok (.invokevirtual 61, 3) := dk_182 0 61 (dk_at dksX6_brings_3 0 rfl rfl)
theorem dX6_brings_73 : decode cX6_brings 73 = .ok (.goto 4, 3) := dk_167 0 4 (dk_at dksX6_brings_3 3 rfl rfl)
theorem dX6_brings_76 : decode cX6_brings 76 = .ok (.iconst (-1), 1) := dk_2 (dk_at dksX6_brings_3 6 rfl rfl)
theorem dX6_brings_77 : decode cX6_brings 77 = .ok (.ireturn, 1) := dk_172 (dk_at dksX6_brings_3 7 rfl rfl)
abbrev cX6_firstOf : ByteArray := prog_19_method_102_code
def yX6_firstOf : MethodName := ⟨RX6, "firstOf", "(IIII)I"⟩
def dkwX6_firstOf_7 : List UInt8 := [167, 255, 105, 21, 6, 172]
abbrev dktX6_firstOf_7 : List UInt8 := dkwX6_firstOf_7 ++ []
def dkwX6_firstOf_6 : List UInt8 := [21, 8, 54, 6, 132, 8, 255, 167, 255, 170, 21, 5, 4, 21, 6, 120, 128, 54, 5, 132, 7, 1]
abbrev dktX6_firstOf_6 : List UInt8 := dkwX6_firstOf_6 ++ dktX6_firstOf_7
def dkwX6_firstOf_5 : List UInt8 := [21, 8, 120, 128, 96, 46, 96, 42, 180, 0, 44, 17, 1, 0, 21, 7, 104, 21, 5, 96, 46, 160, 0, 7]
abbrev dktX6_firstOf_5 : List UInt8 := dkwX6_firstOf_5 ++ dktX6_firstOf_6
def dkwX6_firstOf_4 : List UInt8 := [21, 9, 2, 159, 0, 48, 21, 9, 42, 180, 0, 44, 17, 1, 0, 21, 7, 4, 96, 104, 21, 5, 4]
abbrev dktX6_firstOf_4 : List UInt8 := dkwX6_firstOf_4 ++ dktX6_firstOf_5
def dkwX6_firstOf_3 : List UInt8 := [184, 0, 74, 153, 0, 7, 2, 167, 0, 14, 42, 21, 7, 21, 8, 29, 21, 4, 182, 1, 129, 54, 9]
abbrev dktX6_firstOf_3 : List UInt8 := dkwX6_firstOf_3 ++ dktX6_firstOf_4
def dkwX6_firstOf_2 : List UInt8 := [96, 46, 160, 0, 6, 167, 0, 106, 28, 4, 100, 54, 8, 21, 8, 155, 0, 87, 21, 5, 21, 8]
abbrev dktX6_firstOf_2 : List UInt8 := dkwX6_firstOf_2 ++ dktX6_firstOf_3
def dkwX6_firstOf_1 : List UInt8 := [17, 1, 0, 21, 7, 4, 96, 104, 21, 5, 96, 46, 42, 180, 0, 44, 17, 1, 0, 21, 7, 104, 21, 5]
abbrev dktX6_firstOf_1 : List UInt8 := dkwX6_firstOf_1 ++ dktX6_firstOf_2
def dkwX6_firstOf_0 : List UInt8 := [3, 54, 5, 2, 54, 6, 3, 54, 7, 21, 7, 27, 163, 0, 151, 2, 54, 6, 42, 180, 0, 44]
abbrev dktX6_firstOf_0 : List UInt8 := dkwX6_firstOf_0 ++ dktX6_firstOf_1
theorem dksX6_firstOf_0 : cX6_firstOf.data.toList.drop 0 = dktX6_firstOf_0 := by decide +kernel
theorem dksX6_firstOf_1 : cX6_firstOf.data.toList.drop 22 = dktX6_firstOf_1 := dk_seg dksX6_firstOf_0 22 rfl rfl
theorem dksX6_firstOf_2 : cX6_firstOf.data.toList.drop 46 = dktX6_firstOf_2 := dk_seg dksX6_firstOf_1 24 rfl rfl
theorem dksX6_firstOf_3 : cX6_firstOf.data.toList.drop 68 = dktX6_firstOf_3 := dk_seg dksX6_firstOf_2 22 rfl rfl
theorem dksX6_firstOf_4 : cX6_firstOf.data.toList.drop 91 = dktX6_firstOf_4 := dk_seg dksX6_firstOf_3 23 rfl rfl
theorem dksX6_firstOf_5 : cX6_firstOf.data.toList.drop 114 = dktX6_firstOf_5 := dk_seg dksX6_firstOf_4 23 rfl rfl
theorem dksX6_firstOf_6 : cX6_firstOf.data.toList.drop 138 = dktX6_firstOf_6 := dk_seg dksX6_firstOf_5 24 rfl rfl
theorem dksX6_firstOf_7 : cX6_firstOf.data.toList.drop 160 = dktX6_firstOf_7 := dk_seg dksX6_firstOf_6 22 rfl rfl
theorem dX6_firstOf_0 : decode cX6_firstOf 0 = .ok (.iconst 0, 1) := dk_3 (dk_at dksX6_firstOf_0 0 rfl rfl)
theorem dX6_firstOf_1 : decode cX6_firstOf 1 = .ok (.istore 5, 2) := dk_54 5 (dk_at dksX6_firstOf_0 1 rfl rfl)
theorem dX6_firstOf_3 : decode cX6_firstOf 3 = .ok (.iconst (-1), 1) := dk_2 (dk_at dksX6_firstOf_0 3 rfl rfl)
theorem dX6_firstOf_4 : decode cX6_firstOf 4 = .ok (.istore 6, 2) := dk_54 6 (dk_at dksX6_firstOf_0 4 rfl rfl)
theorem dX6_firstOf_6 : decode cX6_firstOf 6 = .ok (.iconst 0, 1) := dk_3 (dk_at dksX6_firstOf_0 6 rfl rfl)
theorem dX6_firstOf_7 : decode cX6_firstOf 7 = .ok (.istore 7, 2) := dk_54 7 (dk_at dksX6_firstOf_0 7 rfl rfl)
theorem dX6_firstOf_9 : decode cX6_firstOf 9 = .ok (.iload 7, 2) := dk_21 7 (dk_at dksX6_firstOf_0 9 rfl rfl)
theorem dX6_firstOf_11 : decode cX6_firstOf 11 = .ok (.iload_n 1, 1) := dk_27 (dk_at dksX6_firstOf_0 11 rfl rfl)
theorem dX6_firstOf_12 : decode cX6_firstOf 12 = .ok (.if_icmp .gt 151, 3) := dk_163 0 151 (dk_at dksX6_firstOf_0 12 rfl rfl)
theorem dX6_firstOf_15 : decode cX6_firstOf 15 = .ok (.iconst (-1), 1) := dk_2 (dk_at dksX6_firstOf_0 15 rfl rfl)
theorem dX6_firstOf_16 : decode cX6_firstOf 16 = .ok (.istore 6, 2) := dk_54 6 (dk_at dksX6_firstOf_0 16 rfl rfl)
theorem dX6_firstOf_18 : decode cX6_firstOf 18 = .ok (.aload_n 0, 1) := dk_42 (dk_at dksX6_firstOf_0 18 rfl rfl)
theorem dX6_firstOf_19 : decode cX6_firstOf 19 = .ok (.getfield 44, 3) := dk_180 0 44 (dk_at dksX6_firstOf_0 19 rfl rfl)
theorem dX6_firstOf_22 : decode cX6_firstOf 22 = .ok (.sipush 256, 3) := dk_17 1 0 (dk_at dksX6_firstOf_1 0 rfl rfl)
theorem dX6_firstOf_25 : decode cX6_firstOf 25 = .ok (.iload 7, 2) := dk_21 7 (dk_at dksX6_firstOf_1 3 rfl rfl)
theorem dX6_firstOf_27 : decode cX6_firstOf 27 = .ok (.iconst 1, 1) := dk_4 (dk_at dksX6_firstOf_1 5 rfl rfl)
theorem dX6_firstOf_28 : decode cX6_firstOf 28 = .ok (.iadd, 1) := dk_96 (dk_at dksX6_firstOf_1 6 rfl rfl)
theorem dX6_firstOf_29 : decode cX6_firstOf 29 = .ok (.imul, 1) := dk_104 (dk_at dksX6_firstOf_1 7 rfl rfl)
theorem dX6_firstOf_30 : decode cX6_firstOf 30 = .ok (.iload 5, 2) := dk_21 5 (dk_at dksX6_firstOf_1 8 rfl rfl)
theorem dX6_firstOf_32 : decode cX6_firstOf 32 = .ok (.iadd, 1) := dk_96 (dk_at dksX6_firstOf_1 10 rfl rfl)
theorem dX6_firstOf_33 : decode cX6_firstOf 33 = .ok (.iaload, 1) := dk_46 (dk_at dksX6_firstOf_1 11 rfl rfl)
theorem dX6_firstOf_34 : decode cX6_firstOf 34 = .ok (.aload_n 0, 1) := dk_42 (dk_at dksX6_firstOf_1 12 rfl rfl)
theorem dX6_firstOf_35 : decode cX6_firstOf 35 = .ok (.getfield 44, 3) := dk_180 0 44 (dk_at dksX6_firstOf_1 13 rfl rfl)
theorem dX6_firstOf_38 : decode cX6_firstOf 38 = .ok (.sipush 256, 3) := dk_17 1 0 (dk_at dksX6_firstOf_1 16 rfl rfl)
theorem dX6_firstOf_41 : decode cX6_firstOf 41 = .ok (.iload 7, 2) := dk_21 7 (dk_at dksX6_firstOf_1 19 rfl rfl)
theorem dX6_firstOf_43 : decode cX6_firstOf 43 = .ok (.imul, 1) := dk_104 (dk_at dksX6_firstOf_1 21 rfl rfl)
theorem dX6_firstOf_44 : decode cX6_firstOf 44 = .ok (.iload 5, 2) := dk_21 5 (dk_at dksX6_firstOf_1 22 rfl rfl)
theorem dX6_firstOf_46 : decode cX6_firstOf 46 = .ok (.iadd, 1) := dk_96 (dk_at dksX6_firstOf_2 0 rfl rfl)
theorem dX6_firstOf_47 : decode cX6_firstOf 47 = .ok (.iaload, 1) := dk_46 (dk_at dksX6_firstOf_2 1 rfl rfl)
theorem dX6_firstOf_48 : decode cX6_firstOf 48 = .ok (.if_icmp .ne 6, 3) := dk_160 0 6 (dk_at dksX6_firstOf_2 2 rfl rfl)
theorem dX6_firstOf_51 : decode cX6_firstOf 51 = .ok (.goto 106, 3) := dk_167 0 106 (dk_at dksX6_firstOf_2 5 rfl rfl)
theorem dX6_firstOf_54 : decode cX6_firstOf 54 = .ok (.iload_n 2, 1) := dk_28 (dk_at dksX6_firstOf_2 8 rfl rfl)
theorem dX6_firstOf_55 : decode cX6_firstOf 55 = .ok (.iconst 1, 1) := dk_4 (dk_at dksX6_firstOf_2 9 rfl rfl)
theorem dX6_firstOf_56 : decode cX6_firstOf 56 = .ok (.isub, 1) := dk_100 (dk_at dksX6_firstOf_2 10 rfl rfl)
theorem dX6_firstOf_57 : decode cX6_firstOf 57 = .ok (.istore 8, 2) := dk_54 8 (dk_at dksX6_firstOf_2 11 rfl rfl)
theorem dX6_firstOf_59 : decode cX6_firstOf 59 = .ok (.iload 8, 2) := dk_21 8 (dk_at dksX6_firstOf_2 13 rfl rfl)
theorem dX6_firstOf_61 : decode cX6_firstOf 61 = .ok (.ifCond .lt 87, 3) := dk_155 0 87 (dk_at dksX6_firstOf_2 15 rfl rfl)
theorem dX6_firstOf_64 : decode cX6_firstOf 64 = .ok (.iload 5, 2) := dk_21 5 (dk_at dksX6_firstOf_2 18 rfl rfl)
theorem dX6_firstOf_66 : decode cX6_firstOf 66 = .ok (.iload 8, 2) := dk_21 8 (dk_at dksX6_firstOf_2 20 rfl rfl)
theorem dX6_firstOf_68 : decode cX6_firstOf 68 = .ok (.invokestatic 74, 3) := dk_184 0 74 (dk_at dksX6_firstOf_3 0 rfl rfl)
theorem dX6_firstOf_71 : decode cX6_firstOf 71 = .ok (.ifCond .eq 7, 3) := dk_153 0 7 (dk_at dksX6_firstOf_3 3 rfl rfl)
theorem dX6_firstOf_74 : decode cX6_firstOf 74 = .ok (.iconst (-1), 1) := dk_2 (dk_at dksX6_firstOf_3 6 rfl rfl)
theorem dX6_firstOf_75 : decode cX6_firstOf 75 = .ok (.goto 14, 3) := dk_167 0 14 (dk_at dksX6_firstOf_3 7 rfl rfl)
theorem dX6_firstOf_78 : decode cX6_firstOf 78 = .ok (.aload_n 0, 1) := dk_42 (dk_at dksX6_firstOf_3 10 rfl rfl)
theorem dX6_firstOf_79 : decode cX6_firstOf 79 = .ok (.iload 7, 2) := dk_21 7 (dk_at dksX6_firstOf_3 11 rfl rfl)
theorem dX6_firstOf_81 : decode cX6_firstOf 81 = .ok (.iload 8, 2) := dk_21 8 (dk_at dksX6_firstOf_3 13 rfl rfl)
theorem dX6_firstOf_83 : decode cX6_firstOf 83 = .ok (.iload_n 3, 1) := dk_29 (dk_at dksX6_firstOf_3 15 rfl rfl)
theorem dX6_firstOf_84 : decode cX6_firstOf 84 = .ok (.iload 4, 2) := dk_21 4 (dk_at dksX6_firstOf_3 16 rfl rfl)
theorem dX6_firstOf_86 : decode cX6_firstOf 86 = .ok (.invokevirtual 385, 3) := dk_182 1 129 (dk_at dksX6_firstOf_3 18 rfl rfl)
theorem dX6_firstOf_89 : decode cX6_firstOf 89 = .ok (.istore 9, 2) := dk_54 9 (dk_at dksX6_firstOf_3 21 rfl rfl)
theorem dX6_firstOf_91 : decode cX6_firstOf 91 = .ok (.iload 9, 2) := dk_21 9 (dk_at dksX6_firstOf_4 0 rfl rfl)
theorem dX6_firstOf_93 : decode cX6_firstOf 93 = .ok (.iconst (-1), 1) := dk_2 (dk_at dksX6_firstOf_4 2 rfl rfl)
theorem dX6_firstOf_94 : decode cX6_firstOf 94 = .ok (.if_icmp .eq 48, 3) := dk_159 0 48 (dk_at dksX6_firstOf_4 3 rfl rfl)
theorem dX6_firstOf_97 : decode cX6_firstOf 97 = .ok (.iload 9, 2) := dk_21 9 (dk_at dksX6_firstOf_4 6 rfl rfl)
theorem dX6_firstOf_99 : decode cX6_firstOf 99 = .ok (.aload_n 0, 1) := dk_42 (dk_at dksX6_firstOf_4 8 rfl rfl)
theorem dX6_firstOf_100 : decode cX6_firstOf 100 = .ok (.getfield 44, 3) := dk_180 0 44 (dk_at dksX6_firstOf_4 9 rfl rfl)
theorem dX6_firstOf_103 : decode cX6_firstOf 103 = .ok (.sipush 256, 3) := dk_17 1 0 (dk_at dksX6_firstOf_4 12 rfl rfl)
theorem dX6_firstOf_106 : decode cX6_firstOf 106 = .ok (.iload 7, 2) := dk_21 7 (dk_at dksX6_firstOf_4 15 rfl rfl)
theorem dX6_firstOf_108 : decode cX6_firstOf 108 = .ok (.iconst 1, 1) := dk_4 (dk_at dksX6_firstOf_4 17 rfl rfl)
theorem dX6_firstOf_109 : decode cX6_firstOf 109 = .ok (.iadd, 1) := dk_96 (dk_at dksX6_firstOf_4 18 rfl rfl)
theorem dX6_firstOf_110 : decode cX6_firstOf 110 = .ok (.imul, 1) := dk_104 (dk_at dksX6_firstOf_4 19 rfl rfl)
theorem dX6_firstOf_111 : decode cX6_firstOf 111 = .ok (.iload 5, 2) := dk_21 5 (dk_at dksX6_firstOf_4 20 rfl rfl)
theorem dX6_firstOf_113 : decode cX6_firstOf 113 = .ok (.iconst 1, 1) := dk_4 (dk_at dksX6_firstOf_4 22 rfl rfl)
theorem dX6_firstOf_114 : decode cX6_firstOf 114 = .ok (.iload 8, 2) := dk_21 8 (dk_at dksX6_firstOf_5 0 rfl rfl)
theorem dX6_firstOf_116 : decode cX6_firstOf 116 = .ok (.ishl, 1) := dk_120 (dk_at dksX6_firstOf_5 2 rfl rfl)
theorem dX6_firstOf_117 : decode cX6_firstOf 117 = .ok (.ior, 1) := dk_128 (dk_at dksX6_firstOf_5 3 rfl rfl)
theorem dX6_firstOf_118 : decode cX6_firstOf 118 = .ok (.iadd, 1) := dk_96 (dk_at dksX6_firstOf_5 4 rfl rfl)
theorem dX6_firstOf_119 : decode cX6_firstOf 119 = .ok (.iaload, 1) := dk_46 (dk_at dksX6_firstOf_5 5 rfl rfl)
theorem dX6_firstOf_120 : decode cX6_firstOf 120 = .ok (.iadd, 1) := dk_96 (dk_at dksX6_firstOf_5 6 rfl rfl)
theorem dX6_firstOf_121 : decode cX6_firstOf 121 = .ok (.aload_n 0, 1) := dk_42 (dk_at dksX6_firstOf_5 7 rfl rfl)
theorem dX6_firstOf_122 : decode cX6_firstOf 122 = .ok (.getfield 44, 3) := dk_180 0 44 (dk_at dksX6_firstOf_5 8 rfl rfl)
theorem dX6_firstOf_125 : decode cX6_firstOf 125 = .ok (.sipush 256, 3) := dk_17 1 0 (dk_at dksX6_firstOf_5 11 rfl rfl)
theorem dX6_firstOf_128 : decode cX6_firstOf 128 = .ok (.iload 7, 2) := dk_21 7 (dk_at dksX6_firstOf_5 14 rfl rfl)
theorem dX6_firstOf_130 : decode cX6_firstOf 130 = .ok (.imul, 1) := dk_104 (dk_at dksX6_firstOf_5 16 rfl rfl)
theorem dX6_firstOf_131 : decode cX6_firstOf 131 = .ok (.iload 5, 2) := dk_21 5 (dk_at dksX6_firstOf_5 17 rfl rfl)
theorem dX6_firstOf_133 : decode cX6_firstOf 133 = .ok (.iadd, 1) := dk_96 (dk_at dksX6_firstOf_5 19 rfl rfl)
theorem dX6_firstOf_134 : decode cX6_firstOf 134 = .ok (.iaload, 1) := dk_46 (dk_at dksX6_firstOf_5 20 rfl rfl)
theorem dX6_firstOf_135 : decode cX6_firstOf 135 = .ok (.if_icmp .ne 7, 3) := dk_160 0 7 (dk_at dksX6_firstOf_5 21 rfl rfl)
theorem dX6_firstOf_138 : decode cX6_firstOf 138 = .ok (.iload 8, 2) := dk_21 8 (dk_at dksX6_firstOf_6 0 rfl rfl)
theorem dX6_firstOf_140 : decode cX6_firstOf 140 = .ok (.istore 6, 2) := dk_54 6 (dk_at dksX6_firstOf_6 2 rfl rfl)
theorem dX6_firstOf_142 : decode cX6_firstOf 142 = .ok (.iinc 8 (-1), 3) := dk_132 8 255 (dk_at dksX6_firstOf_6 4 rfl rfl)
theorem dX6_firstOf_145 : decode cX6_firstOf 145 = .ok (.goto (-86), 3) := dk_167 255 170 (dk_at dksX6_firstOf_6 7 rfl rfl)
theorem dX6_firstOf_148 : decode cX6_firstOf 148 = .ok (.iload 5, 2) := dk_21 5 (dk_at dksX6_firstOf_6 10 rfl rfl)
theorem dX6_firstOf_150 : decode cX6_firstOf 150 = .ok (.iconst 1, 1) := dk_4 (dk_at dksX6_firstOf_6 12 rfl rfl)
theorem dX6_firstOf_151 : decode cX6_firstOf 151 = .ok (.iload 6, 2) := dk_21 6 (dk_at dksX6_firstOf_6 13 rfl rfl)
theorem dX6_firstOf_153 : decode cX6_firstOf 153 = .ok (.ishl, 1) := dk_120 (dk_at dksX6_firstOf_6 15 rfl rfl)
theorem dX6_firstOf_154 : decode cX6_firstOf 154 = .ok (.ior, 1) := dk_128 (dk_at dksX6_firstOf_6 16 rfl rfl)
theorem dX6_firstOf_155 : decode cX6_firstOf 155 = .ok (.istore 5, 2) := dk_54 5 (dk_at dksX6_firstOf_6 17 rfl rfl)
theorem dX6_firstOf_157 : decode cX6_firstOf 157 = .ok (.iinc 7 1, 3) := dk_132 7 1 (dk_at dksX6_firstOf_6 19 rfl rfl)
theorem dX6_firstOf_160 : decode cX6_firstOf 160 = .ok (.goto (-151), 3) := dk_167 255 105 (dk_at dksX6_firstOf_7 0 rfl rfl)
theorem dX6_firstOf_163 : decode cX6_firstOf 163 = .ok (.iload 6, 2) := dk_21 6 (dk_at dksX6_firstOf_7 3 rfl rfl)
theorem dX6_firstOf_165 : decode cX6_firstOf 165 = .ok (.ireturn, 1) := dk_172 (dk_at dksX6_firstOf_7 5 rfl rfl)
abbrev cX6_lend : ByteArray := prog_19_method_104_code
def yX6_lend : MethodName := ⟨RX6, "lend", "(I)I"⟩
def dkwX6_lend_3 : List UInt8 := [180, 0, 7, 6, 46, 2, 17, 0, 255, 182, 1, 137, 172]
abbrev dktX6_lend_3 : List UInt8 := dkwX6_lend_3 ++ []
def dkwX6_lend_2 : List UInt8 := [17, 0, 255, 182, 1, 133, 27, 2, 160, 0, 12, 42, 180, 0, 44, 3, 46, 167, 0, 18, 42, 27, 42]
abbrev dktX6_lend_2 : List UInt8 := dkwX6_lend_2 ++ dktX6_lend_3
def dkwX6_lend_1 : List UInt8 := [180, 0, 54, 158, 0, 5, 3, 172, 42, 42, 180, 0, 7, 7, 46, 42, 180, 0, 7, 6, 46, 2]
abbrev dktX6_lend_1 : List UInt8 := dkwX6_lend_1 ++ dktX6_lend_2
def dkwX6_lend_0 : List UInt8 := [42, 27, 2, 159, 0, 15, 42, 27, 182, 1, 66, 154, 0, 7, 4, 167, 0, 4, 3, 181, 0, 54, 42]
abbrev dktX6_lend_0 : List UInt8 := dkwX6_lend_0 ++ dktX6_lend_1
theorem dksX6_lend_0 : cX6_lend.data.toList.drop 0 = dktX6_lend_0 := by decide +kernel
theorem dksX6_lend_1 : cX6_lend.data.toList.drop 23 = dktX6_lend_1 := dk_seg dksX6_lend_0 23 rfl rfl
theorem dksX6_lend_2 : cX6_lend.data.toList.drop 45 = dktX6_lend_2 := dk_seg dksX6_lend_1 22 rfl rfl
theorem dksX6_lend_3 : cX6_lend.data.toList.drop 68 = dktX6_lend_3 := dk_seg dksX6_lend_2 23 rfl rfl
theorem dX6_lend_0 : decode cX6_lend 0 = .ok (.aload_n 0, 1) := dk_42 (dk_at dksX6_lend_0 0 rfl rfl)
theorem dX6_lend_1 : decode cX6_lend 1 = .ok (.iload_n 1, 1) := dk_27 (dk_at dksX6_lend_0 1 rfl rfl)
theorem dX6_lend_2 : decode cX6_lend 2 = .ok (.iconst (-1), 1) := dk_2 (dk_at dksX6_lend_0 2 rfl rfl)
theorem dX6_lend_3 : decode cX6_lend 3 = .ok (.if_icmp .eq 15, 3) := dk_159 0 15 (dk_at dksX6_lend_0 3 rfl rfl)
theorem dX6_lend_6 : decode cX6_lend 6 = .ok (.aload_n 0, 1) := dk_42 (dk_at dksX6_lend_0 6 rfl rfl)
theorem dX6_lend_7 : decode cX6_lend 7 = .ok (.iload_n 1, 1) := dk_27 (dk_at dksX6_lend_0 7 rfl rfl)
theorem dX6_lend_8 : decode cX6_lend 8 = .ok (.invokevirtual 322, 3) := dk_182 1 66 (dk_at dksX6_lend_0 8 rfl rfl)
theorem dX6_lend_11 : decode cX6_lend 11 = .ok (.ifCond .ne 7, 3) := dk_154 0 7 (dk_at dksX6_lend_0 11 rfl rfl)
theorem dX6_lend_14 : decode cX6_lend 14 = .ok (.iconst 1, 1) := dk_4 (dk_at dksX6_lend_0 14 rfl rfl)
theorem dX6_lend_15 : decode cX6_lend 15 = .ok (.goto 4, 3) := dk_167 0 4 (dk_at dksX6_lend_0 15 rfl rfl)
theorem dX6_lend_18 : decode cX6_lend 18 = .ok (.iconst 0, 1) := dk_3 (dk_at dksX6_lend_0 18 rfl rfl)
theorem dX6_lend_19 : decode cX6_lend 19 = .ok (.putfield 54, 3) := dk_181 0 54 (dk_at dksX6_lend_0 19 rfl rfl)
theorem dX6_lend_22 : decode cX6_lend 22 = .ok (.aload_n 0, 1) := dk_42 (dk_at dksX6_lend_0 22 rfl rfl)
theorem dX6_lend_23 : decode cX6_lend 23 = .ok (.getfield 54, 3) := dk_180 0 54 (dk_at dksX6_lend_1 0 rfl rfl)
theorem dX6_lend_26 : decode cX6_lend 26 = .ok (.ifCond .le 5, 3) := dk_158 0 5 (dk_at dksX6_lend_1 3 rfl rfl)
theorem dX6_lend_29 : decode cX6_lend 29 = .ok (.iconst 0, 1) := dk_3 (dk_at dksX6_lend_1 6 rfl rfl)
theorem dX6_lend_30 : decode cX6_lend 30 = .ok (.ireturn, 1) := dk_172 (dk_at dksX6_lend_1 7 rfl rfl)
theorem dX6_lend_31 : decode cX6_lend 31 = .ok (.aload_n 0, 1) := dk_42 (dk_at dksX6_lend_1 8 rfl rfl)
theorem dX6_lend_32 : decode cX6_lend 32 = .ok (.aload_n 0, 1) := dk_42 (dk_at dksX6_lend_1 9 rfl rfl)
theorem dX6_lend_33 : decode cX6_lend 33 = .ok (.getfield 7, 3) := dk_180 0 7 (dk_at dksX6_lend_1 10 rfl rfl)
theorem dX6_lend_36 : decode cX6_lend 36 = .ok (.iconst 4, 1) := dk_7 (dk_at dksX6_lend_1 13 rfl rfl)
theorem dX6_lend_37 : decode cX6_lend 37 = .ok (.iaload, 1) := dk_46 (dk_at dksX6_lend_1 14 rfl rfl)
theorem dX6_lend_38 : decode cX6_lend 38 = .ok (.aload_n 0, 1) := dk_42 (dk_at dksX6_lend_1 15 rfl rfl)
theorem dX6_lend_39 : decode cX6_lend 39 = .ok (.getfield 7, 3) := dk_180 0 7 (dk_at dksX6_lend_1 16 rfl rfl)
theorem dX6_lend_42 : decode cX6_lend 42 = .ok (.iconst 3, 1) := dk_6 (dk_at dksX6_lend_1 19 rfl rfl)
theorem dX6_lend_43 : decode cX6_lend 43 = .ok (.iaload, 1) := dk_46 (dk_at dksX6_lend_1 20 rfl rfl)
theorem dX6_lend_44 : decode cX6_lend 44 = .ok (.iconst (-1), 1) := dk_2 (dk_at dksX6_lend_1 21 rfl rfl)
theorem dX6_lend_45 : decode cX6_lend 45 = .ok (.sipush 255, 3) := dk_17 0 255 (dk_at dksX6_lend_2 0 rfl rfl)
theorem dX6_lend_48 : decode cX6_lend 48 = .ok (.invokevirtual 389, 3) := dk_182 1 133 (dk_at dksX6_lend_2 3 rfl rfl)
theorem dX6_lend_51 : decode cX6_lend 51 = .ok (.iload_n 1, 1) := dk_27 (dk_at dksX6_lend_2 6 rfl rfl)
theorem dX6_lend_52 : decode cX6_lend 52 = .ok (.iconst (-1), 1) := dk_2 (dk_at dksX6_lend_2 7 rfl rfl)
theorem dX6_lend_53 : decode cX6_lend 53 = .ok (.if_icmp .ne 12, 3) := dk_160 0 12 (dk_at dksX6_lend_2 8 rfl rfl)
theorem dX6_lend_56 : decode cX6_lend 56 = .ok (.aload_n 0, 1) := dk_42 (dk_at dksX6_lend_2 11 rfl rfl)
theorem dX6_lend_57 : decode cX6_lend 57 = .ok (.getfield 44, 3) := dk_180 0 44 (dk_at dksX6_lend_2 12 rfl rfl)
theorem dX6_lend_60 : decode cX6_lend 60 = .ok (.iconst 0, 1) := dk_3 (dk_at dksX6_lend_2 15 rfl rfl)
theorem dX6_lend_61 : decode cX6_lend 61 = .ok (.iaload, 1) := dk_46 (dk_at dksX6_lend_2 16 rfl rfl)
theorem dX6_lend_62 : decode cX6_lend 62 = .ok (.goto 18, 3) := dk_167 0 18 (dk_at dksX6_lend_2 17 rfl rfl)
theorem dX6_lend_65 : decode cX6_lend 65 = .ok (.aload_n 0, 1) := dk_42 (dk_at dksX6_lend_2 20 rfl rfl)
theorem dX6_lend_66 : decode cX6_lend 66 = .ok (.iload_n 1, 1) := dk_27 (dk_at dksX6_lend_2 21 rfl rfl)
theorem dX6_lend_67 : decode cX6_lend 67 = .ok (.aload_n 0, 1) := dk_42 (dk_at dksX6_lend_2 22 rfl rfl)
theorem dX6_lend_68 : decode cX6_lend 68 = .ok (.getfield 7, 3) := dk_180 0 7 (dk_at dksX6_lend_3 0 rfl rfl)
theorem dX6_lend_71 : decode cX6_lend 71 = .ok (.iconst 3, 1) := dk_6 (dk_at dksX6_lend_3 3 rfl rfl)
theorem dX6_lend_72 : decode cX6_lend 72 = .ok (.iaload, 1) := dk_46 (dk_at dksX6_lend_3 4 rfl rfl)
theorem dX6_lend_73 : decode cX6_lend 73 = .ok (.iconst (-1), 1) := dk_2 (dk_at dksX6_lend_3 5 rfl rfl)
theorem dX6_lend_74 : decode cX6_lend 74 = .ok (.sipush 255, 3) := dk_17 0 255 (dk_at dksX6_lend_3 6 rfl rfl)
theorem dX6_lend_77 : decode cX6_lend 77 = .ok (.invokevirtual 393, 3) := dk_182 1 137 (dk_at dksX6_lend_3 9 rfl rfl)
theorem dX6_lend_80 : decode cX6_lend 80 = .ok (.ireturn, 1) := dk_172 (dk_at dksX6_lend_3 12 rfl rfl)
abbrev cX6_rules : ByteArray := prog_19_method_107_code
def yX6_rules : MethodName := ⟨RX6, "rules", "(Z)I"⟩
def dkwX6_rules_4 : List UInt8 := [29, 172]
abbrev dktX6_rules_4 : List UInt8 := dkwX6_rules_4 ++ []
def dkwX6_rules_3 : List UInt8 := [159, 0, 12, 21, 4, 184, 1, 47, 29, 162, 0, 9, 21, 4, 184, 1, 47, 62, 132, 4, 1, 167, 255, 215]
abbrev dktX6_rules_3 : List UInt8 := dkwX6_rules_3 ++ dktX6_rules_4
def dkwX6_rules_2 : List UInt8 := [54, 4, 21, 4, 17, 16, 0, 162, 0, 39, 42, 180, 0, 47, 21, 4, 51, 153, 0, 23, 29, 2]
abbrev dktX6_rules_2 : List UInt8 := dkwX6_rules_2 ++ dktX6_rules_3
def dkwX6_rules_1 : List UInt8 := [157, 0, 7, 27, 154, 0, 16, 42, 180, 0, 54, 158, 0, 7, 3, 167, 0, 4, 28, 172, 2, 62, 3]
abbrev dktX6_rules_1 : List UInt8 := dkwX6_rules_1 ++ dktX6_rules_2
def dkwX6_rules_0 : List UInt8 := [42, 182, 1, 143, 61, 42, 28, 2, 160, 0, 7, 4, 167, 0, 4, 3, 181, 0, 54, 42, 180, 0, 54]
abbrev dktX6_rules_0 : List UInt8 := dkwX6_rules_0 ++ dktX6_rules_1
theorem dksX6_rules_0 : cX6_rules.data.toList.drop 0 = dktX6_rules_0 := by decide +kernel
theorem dksX6_rules_1 : cX6_rules.data.toList.drop 23 = dktX6_rules_1 := dk_seg dksX6_rules_0 23 rfl rfl
theorem dksX6_rules_2 : cX6_rules.data.toList.drop 46 = dktX6_rules_2 := dk_seg dksX6_rules_1 23 rfl rfl
theorem dksX6_rules_3 : cX6_rules.data.toList.drop 68 = dktX6_rules_3 := dk_seg dksX6_rules_2 22 rfl rfl
theorem dksX6_rules_4 : cX6_rules.data.toList.drop 92 = dktX6_rules_4 := dk_seg dksX6_rules_3 24 rfl rfl
theorem dX6_rules_0 : decode cX6_rules 0 = .ok (.aload_n 0, 1) := dk_42 (dk_at dksX6_rules_0 0 rfl rfl)
theorem dX6_rules_1 : decode cX6_rules 1 = .ok (.invokevirtual 399, 3) := dk_182 1 143 (dk_at dksX6_rules_0 1 rfl rfl)
theorem dX6_rules_4 : decode cX6_rules 4 = .ok (.istore_n 2, 1) := dk_61 (dk_at dksX6_rules_0 4 rfl rfl)
theorem dX6_rules_5 : decode cX6_rules 5 = .ok (.aload_n 0, 1) := dk_42 (dk_at dksX6_rules_0 5 rfl rfl)
theorem dX6_rules_6 : decode cX6_rules 6 = .ok (.iload_n 2, 1) := dk_28 (dk_at dksX6_rules_0 6 rfl rfl)
theorem dX6_rules_7 : decode cX6_rules 7 = .ok (.iconst (-1), 1) := dk_2 (dk_at dksX6_rules_0 7 rfl rfl)
theorem dX6_rules_8 : decode cX6_rules 8 = .ok (.if_icmp .ne 7, 3) := dk_160 0 7 (dk_at dksX6_rules_0 8 rfl rfl)
theorem dX6_rules_11 : decode cX6_rules 11 = .ok (.iconst 1, 1) := dk_4 (dk_at dksX6_rules_0 11 rfl rfl)
theorem dX6_rules_12 : decode cX6_rules 12 = .ok (.goto 4, 3) := dk_167 0 4 (dk_at dksX6_rules_0 12 rfl rfl)
theorem dX6_rules_15 : decode cX6_rules 15 = .ok (.iconst 0, 1) := dk_3 (dk_at dksX6_rules_0 15 rfl rfl)
theorem dX6_rules_16 : decode cX6_rules 16 = .ok (.putfield 54, 3) := dk_181 0 54 (dk_at dksX6_rules_0 16 rfl rfl)
theorem dX6_rules_19 : decode cX6_rules 19 = .ok (.aload_n 0, 1) := dk_42 (dk_at dksX6_rules_0 19 rfl rfl)
theorem dX6_rules_20 : decode cX6_rules 20 = .ok (.getfield 54, 3) := dk_180 0 54 (dk_at dksX6_rules_0 20 rfl rfl)
theorem dX6_rules_23 : decode cX6_rules 23 = .ok (.ifCond .gt 7, 3) := dk_157 0 7 (dk_at dksX6_rules_1 0 rfl rfl)
theorem dX6_rules_26 : decode cX6_rules 26 = .ok (.iload_n 1, 1) := dk_27 (dk_at dksX6_rules_1 3 rfl rfl)
theorem dX6_rules_27 : decode cX6_rules 27 = .ok (.ifCond .ne 16, 3) := dk_154 0 16 (dk_at dksX6_rules_1 4 rfl rfl)
theorem dX6_rules_30 : decode cX6_rules 30 = .ok (.aload_n 0, 1) := dk_42 (dk_at dksX6_rules_1 7 rfl rfl)
theorem dX6_rules_31 : decode cX6_rules 31 = .ok (.getfield 54, 3) := dk_180 0 54 (dk_at dksX6_rules_1 8 rfl rfl)
theorem dX6_rules_34 : decode cX6_rules 34 = .ok (.ifCond .le 7, 3) := dk_158 0 7 (dk_at dksX6_rules_1 11 rfl rfl)
theorem dX6_rules_37 : decode cX6_rules 37 = .ok (.iconst 0, 1) := dk_3 (dk_at dksX6_rules_1 14 rfl rfl)
theorem dX6_rules_38 : decode cX6_rules 38 = .ok (.goto 4, 3) := dk_167 0 4 (dk_at dksX6_rules_1 15 rfl rfl)
theorem dX6_rules_41 : decode cX6_rules 41 = .ok (.iload_n 2, 1) := dk_28 (dk_at dksX6_rules_1 18 rfl rfl)
theorem dX6_rules_42 : decode cX6_rules 42 = .ok (.ireturn, 1) := dk_172 (dk_at dksX6_rules_1 19 rfl rfl)
theorem dX6_rules_43 : decode cX6_rules 43 = .ok (.iconst (-1), 1) := dk_2 (dk_at dksX6_rules_1 20 rfl rfl)
theorem dX6_rules_44 : decode cX6_rules 44 = .ok (.istore_n 3, 1) := dk_62 (dk_at dksX6_rules_1 21 rfl rfl)
theorem dX6_rules_45 : decode cX6_rules 45 = .ok (.iconst 0, 1) := dk_3 (dk_at dksX6_rules_1 22 rfl rfl)
theorem dX6_rules_46 : decode cX6_rules 46 = .ok (.istore 4, 2) := dk_54 4 (dk_at dksX6_rules_2 0 rfl rfl)
theorem dX6_rules_48 : decode cX6_rules 48 = .ok (.iload 4, 2) := dk_21 4 (dk_at dksX6_rules_2 2 rfl rfl)
theorem dX6_rules_50 : decode cX6_rules 50 = .ok (.sipush 4096, 3) := dk_17 16 0 (dk_at dksX6_rules_2 4 rfl rfl)
theorem dX6_rules_53 : decode cX6_rules 53 = .ok (.if_icmp .ge 39, 3) := dk_162 0 39 (dk_at dksX6_rules_2 7 rfl rfl)
theorem dX6_rules_56 : decode cX6_rules 56 = .ok (.aload_n 0, 1) := dk_42 (dk_at dksX6_rules_2 10 rfl rfl)
theorem dX6_rules_57 : decode cX6_rules 57 = .ok (.getfield 47, 3) := dk_180 0 47 (dk_at dksX6_rules_2 11 rfl rfl)
theorem dX6_rules_60 : decode cX6_rules 60 = .ok (.iload 4, 2) := dk_21 4 (dk_at dksX6_rules_2 14 rfl rfl)
theorem dX6_rules_62 : decode cX6_rules 62 = .ok (.baload, 1) := dk_51 (dk_at dksX6_rules_2 16 rfl rfl)
theorem dX6_rules_63 : decode cX6_rules 63 = .ok (.ifCond .eq 23, 3) := dk_153 0 23 (dk_at dksX6_rules_2 17 rfl rfl)
theorem dX6_rules_66 : decode cX6_rules 66 = .ok (.iload_n 3, 1) := dk_29 (dk_at dksX6_rules_2 20 rfl rfl)
theorem dX6_rules_67 : decode cX6_rules 67 = .ok (.iconst (-1), 1) := dk_2 (dk_at dksX6_rules_2 21 rfl rfl)
theorem dX6_rules_68 : decode cX6_rules 68 = .ok (.if_icmp .eq 12, 3) := dk_159 0 12 (dk_at dksX6_rules_3 0 rfl rfl)
theorem dX6_rules_71 : decode cX6_rules 71 = .ok (.iload 4, 2) := dk_21 4 (dk_at dksX6_rules_3 3 rfl rfl)
theorem dX6_rules_73 : decode cX6_rules 73 = .ok (.invokestatic 303, 3) := dk_184 1 47 (dk_at dksX6_rules_3 5 rfl rfl)
theorem dX6_rules_76 : decode cX6_rules 76 = .ok (.iload_n 3, 1) := dk_29 (dk_at dksX6_rules_3 8 rfl rfl)
theorem dX6_rules_77 : decode cX6_rules 77 = .ok (.if_icmp .ge 9, 3) := dk_162 0 9 (dk_at dksX6_rules_3 9 rfl rfl)
theorem dX6_rules_80 : decode cX6_rules 80 = .ok (.iload 4, 2) := dk_21 4 (dk_at dksX6_rules_3 12 rfl rfl)
theorem dX6_rules_82 : decode cX6_rules 82 = .ok (.invokestatic 303, 3) := dk_184 1 47 (dk_at dksX6_rules_3 14 rfl rfl)
theorem dX6_rules_85 : decode cX6_rules 85 = .ok (.istore_n 3, 1) := dk_62 (dk_at dksX6_rules_3 17 rfl rfl)
theorem dX6_rules_86 : decode cX6_rules 86 = .ok (.iinc 4 1, 3) := dk_132 4 1 (dk_at dksX6_rules_3 18 rfl rfl)
theorem dX6_rules_89 : decode cX6_rules 89 = .ok (.goto (-41), 3) := dk_167 255 215 (dk_at dksX6_rules_3 21 rfl rfl)
theorem dX6_rules_92 : decode cX6_rules 92 = .ok (.iload_n 3, 1) := dk_29 (dk_at dksX6_rules_4 0 rfl rfl)
theorem dX6_rules_93 : decode cX6_rules 93 = .ok (.ireturn, 1) := dk_172 (dk_at dksX6_rules_4 1 rfl rfl)
abbrev cX6_heard : ByteArray := prog_19_method_106_code
def yX6_heard : MethodName := ⟨RX6, "heard", "()I"⟩
def dkwX6_heard_9 : List UInt8 := [172]
abbrev dktX6_heard_9 : List UInt8 := dkwX6_heard_9 ++ []
def dkwX6_heard_8 : List UInt8 := [42, 180, 0, 47, 21, 4, 51, 153, 0, 7, 4, 167, 0, 4, 3, 96, 62, 132, 4, 1, 167, 255, 131, 29]
abbrev dktX6_heard_8 : List UInt8 := dkwX6_heard_8 ++ dktX6_heard_9
def dkwX6_heard_7 : List UInt8 := [160, 0, 7, 4, 167, 0, 4, 3, 160, 0, 7, 4, 167, 0, 4, 3, 84, 132, 5, 2, 167, 255, 192, 29]
abbrev dktX6_heard_7 : List UInt8 := dkwX6_heard_7 ++ dktX6_heard_8
def dkwX6_heard_6 : List UInt8 := [21, 4, 21, 4, 42, 180, 0, 22, 21, 5, 46, 184, 1, 140, 42, 180, 0, 22, 21, 5, 4, 96, 46, 4]
abbrev dktX6_heard_6 : List UInt8 := dkwX6_heard_6 ++ dktX6_heard_7
def dkwX6_heard_5 : List UInt8 := [84, 3, 54, 5, 21, 5, 27, 162, 0, 64, 42, 180, 0, 47, 21, 4, 51, 153, 0, 54, 42, 180, 0, 47]
abbrev dktX6_heard_5 : List UInt8 := dkwX6_heard_5 ++ dktX6_heard_6
def dkwX6_heard_4 : List UInt8 := [180, 0, 47, 21, 4, 21, 4, 16, 6, 122, 21, 4, 126, 16, 63, 126, 154, 0, 7, 4, 167, 0, 4, 3]
abbrev dktX6_heard_4 : List UInt8 := dkwX6_heard_4 ++ dktX6_heard_5
def dkwX6_heard_3 : List UInt8 := [167, 255, 217, 28, 154, 0, 5, 2, 172, 3, 62, 3, 54, 4, 21, 4, 17, 16, 0, 162, 0, 123, 42]
abbrev dktX6_heard_3 : List UInt8 := dkwX6_heard_3 ++ dktX6_heard_4
def dkwX6_heard_2 : List UInt8 := [112, 154, 0, 8, 16, 64, 167, 0, 4, 5, 162, 0, 7, 4, 167, 0, 4, 3, 61, 132, 3, 1]
abbrev dktX6_heard_2 : List UInt8 := dkwX6_heard_2 ++ dktX6_heard_3
def dkwX6_heard_1 : List UInt8 := [167, 0, 4, 3, 61, 3, 62, 29, 27, 162, 0, 40, 28, 153, 0, 36, 42, 180, 0, 22, 29, 46, 29, 5]
abbrev dktX6_heard_1 : List UInt8 := dkwX6_heard_1 ++ dktX6_heard_2
def dkwX6_heard_0 : List UInt8 := [42, 180, 0, 81, 60, 42, 3, 181, 0, 81, 27, 5, 112, 154, 0, 13, 27, 16, 40, 163, 0, 7, 4]
abbrev dktX6_heard_0 : List UInt8 := dkwX6_heard_0 ++ dktX6_heard_1
theorem dksX6_heard_0 : cX6_heard.data.toList.drop 0 = dktX6_heard_0 := by decide +kernel
theorem dksX6_heard_1 : cX6_heard.data.toList.drop 23 = dktX6_heard_1 := dk_seg dksX6_heard_0 23 rfl rfl
theorem dksX6_heard_2 : cX6_heard.data.toList.drop 47 = dktX6_heard_2 := dk_seg dksX6_heard_1 24 rfl rfl
theorem dksX6_heard_3 : cX6_heard.data.toList.drop 69 = dktX6_heard_3 := dk_seg dksX6_heard_2 22 rfl rfl
theorem dksX6_heard_4 : cX6_heard.data.toList.drop 92 = dktX6_heard_4 := dk_seg dksX6_heard_3 23 rfl rfl
theorem dksX6_heard_5 : cX6_heard.data.toList.drop 116 = dktX6_heard_5 := dk_seg dksX6_heard_4 24 rfl rfl
theorem dksX6_heard_6 : cX6_heard.data.toList.drop 140 = dktX6_heard_6 := dk_seg dksX6_heard_5 24 rfl rfl
theorem dksX6_heard_7 : cX6_heard.data.toList.drop 164 = dktX6_heard_7 := dk_seg dksX6_heard_6 24 rfl rfl
theorem dksX6_heard_8 : cX6_heard.data.toList.drop 188 = dktX6_heard_8 := dk_seg dksX6_heard_7 24 rfl rfl
theorem dksX6_heard_9 : cX6_heard.data.toList.drop 212 = dktX6_heard_9 := dk_seg dksX6_heard_8 24 rfl rfl
theorem dX6_heard_0 : decode cX6_heard 0 = .ok (.aload_n 0, 1) := dk_42 (dk_at dksX6_heard_0 0 rfl rfl)
theorem dX6_heard_1 : decode cX6_heard 1 = .ok (.getfield 81, 3) := dk_180 0 81 (dk_at dksX6_heard_0 1 rfl rfl)
theorem dX6_heard_4 : decode cX6_heard 4 = .ok (.istore_n 1, 1) := dk_60 (dk_at dksX6_heard_0 4 rfl rfl)
theorem dX6_heard_5 : decode cX6_heard 5 = .ok (.aload_n 0, 1) := dk_42 (dk_at dksX6_heard_0 5 rfl rfl)
theorem dX6_heard_6 : decode cX6_heard 6 = .ok (.iconst 0, 1) := dk_3 (dk_at dksX6_heard_0 6 rfl rfl)
theorem dX6_heard_7 : decode cX6_heard 7 = .ok (.putfield 81, 3) := dk_181 0 81 (dk_at dksX6_heard_0 7 rfl rfl)
theorem dX6_heard_10 : decode cX6_heard 10 = .ok (.iload_n 1, 1) := dk_27 (dk_at dksX6_heard_0 10 rfl rfl)
theorem dX6_heard_11 : decode cX6_heard 11 = .ok (.iconst 2, 1) := dk_5 (dk_at dksX6_heard_0 11 rfl rfl)
theorem dX6_heard_12 : decode cX6_heard 12 = .ok (.irem, 1) := dk_112 (dk_at dksX6_heard_0 12 rfl rfl)
theorem dX6_heard_13 : decode cX6_heard 13 = .ok (.ifCond .ne 13, 3) := dk_154 0 13 (dk_at dksX6_heard_0 13 rfl rfl)
theorem dX6_heard_16 : decode cX6_heard 16 = .ok (.iload_n 1, 1) := dk_27 (dk_at dksX6_heard_0 16 rfl rfl)
theorem dX6_heard_17 : decode cX6_heard 17 = .ok (.bipush 40, 2) := dk_16 40 (dk_at dksX6_heard_0 17 rfl rfl)
theorem dX6_heard_19 : decode cX6_heard 19 = .ok (.if_icmp .gt 7, 3) := dk_163 0 7 (dk_at dksX6_heard_0 19 rfl rfl)
theorem dX6_heard_22 : decode cX6_heard 22 = .ok (.iconst 1, 1) := dk_4 (dk_at dksX6_heard_0 22 rfl rfl)
theorem dX6_heard_23 : decode cX6_heard 23 = .ok (.goto 4, 3) := dk_167 0 4 (dk_at dksX6_heard_1 0 rfl rfl)
theorem dX6_heard_26 : decode cX6_heard 26 = .ok (.iconst 0, 1) := dk_3 (dk_at dksX6_heard_1 3 rfl rfl)
theorem dX6_heard_27 : decode cX6_heard 27 = .ok (.istore_n 2, 1) := dk_61 (dk_at dksX6_heard_1 4 rfl rfl)
theorem dX6_heard_28 : decode cX6_heard 28 = .ok (.iconst 0, 1) := dk_3 (dk_at dksX6_heard_1 5 rfl rfl)
theorem dX6_heard_29 : decode cX6_heard 29 = .ok (.istore_n 3, 1) := dk_62 (dk_at dksX6_heard_1 6 rfl rfl)
theorem dX6_heard_30 : decode cX6_heard 30 = .ok (.iload_n 3, 1) := dk_29 (dk_at dksX6_heard_1 7 rfl rfl)
theorem dX6_heard_31 : decode cX6_heard 31 = .ok (.iload_n 1, 1) := dk_27 (dk_at dksX6_heard_1 8 rfl rfl)
theorem dX6_heard_32 : decode cX6_heard 32 = .ok (.if_icmp .ge 40, 3) := dk_162 0 40 (dk_at dksX6_heard_1 9 rfl rfl)
theorem dX6_heard_35 : decode cX6_heard 35 = .ok (.iload_n 2, 1) := dk_28 (dk_at dksX6_heard_1 12 rfl rfl)
theorem dX6_heard_36 : decode cX6_heard 36 = .ok (.ifCond .eq 36, 3) := dk_153 0 36 (dk_at dksX6_heard_1 13 rfl rfl)
theorem dX6_heard_39 : decode cX6_heard 39 = .ok (.aload_n 0, 1) := dk_42 (dk_at dksX6_heard_1 16 rfl rfl)
theorem dX6_heard_40 : decode cX6_heard 40 = .ok (.getfield 22, 3) := dk_180 0 22 (dk_at dksX6_heard_1 17 rfl rfl)
theorem dX6_heard_43 : decode cX6_heard 43 = .ok (.iload_n 3, 1) := dk_29 (dk_at dksX6_heard_1 20 rfl rfl)
theorem dX6_heard_44 : decode cX6_heard 44 = .ok (.iaload, 1) := dk_46 (dk_at dksX6_heard_1 21 rfl rfl)
theorem dX6_heard_45 : decode cX6_heard 45 = .ok (.iload_n 3, 1) := dk_29 (dk_at dksX6_heard_1 22 rfl rfl)
theorem dX6_heard_46 : decode cX6_heard 46 = .ok (.iconst 2, 1) := dk_5 (dk_at dksX6_heard_1 23 rfl rfl)
theorem dX6_heard_47 : decode cX6_heard 47 = .ok (.irem, 1) := dk_112 (dk_at dksX6_heard_2 0 rfl rfl)
theorem dX6_heard_48 : decode cX6_heard 48 = .ok (.ifCond .ne 8, 3) := dk_154 0 8 (dk_at dksX6_heard_2 1 rfl rfl)
theorem dX6_heard_51 : decode cX6_heard 51 = .ok (.bipush 64, 2) := dk_16 64 (dk_at dksX6_heard_2 4 rfl rfl)
theorem dX6_heard_53 : decode cX6_heard 53 = .ok (.goto 4, 3) := dk_167 0 4 (dk_at dksX6_heard_2 6 rfl rfl)
theorem dX6_heard_56 : decode cX6_heard 56 = .ok (.iconst 2, 1) := dk_5 (dk_at dksX6_heard_2 9 rfl rfl)
theorem dX6_heard_57 : decode cX6_heard 57 = .ok (.if_icmp .ge 7, 3) := dk_162 0 7 (dk_at dksX6_heard_2 10 rfl rfl)
theorem dX6_heard_60 : decode cX6_heard 60 = .ok (.iconst 1, 1) := dk_4 (dk_at dksX6_heard_2 13 rfl rfl)
theorem dX6_heard_61 : decode cX6_heard 61 = .ok (.goto 4, 3) := dk_167 0 4 (dk_at dksX6_heard_2 14 rfl rfl)
theorem dX6_heard_64 : decode cX6_heard 64 = .ok (.iconst 0, 1) := dk_3 (dk_at dksX6_heard_2 17 rfl rfl)
theorem dX6_heard_65 : decode cX6_heard 65 = .ok (.istore_n 2, 1) := dk_61 (dk_at dksX6_heard_2 18 rfl rfl)
theorem dX6_heard_66 : decode cX6_heard 66 = .ok (.iinc 3 1, 3) := dk_132 3 1 (dk_at dksX6_heard_2 19 rfl rfl)
theorem dX6_heard_69 : decode cX6_heard 69 = .ok (.goto (-39), 3) := dk_167 255 217 (dk_at dksX6_heard_3 0 rfl rfl)
theorem dX6_heard_72 : decode cX6_heard 72 = .ok (.iload_n 2, 1) := dk_28 (dk_at dksX6_heard_3 3 rfl rfl)
theorem dX6_heard_73 : decode cX6_heard 73 = .ok (.ifCond .ne 5, 3) := dk_154 0 5 (dk_at dksX6_heard_3 4 rfl rfl)
theorem dX6_heard_76 : decode cX6_heard 76 = .ok (.iconst (-1), 1) := dk_2 (dk_at dksX6_heard_3 7 rfl rfl)
theorem dX6_heard_77 : decode cX6_heard 77 = .ok (.ireturn, 1) := dk_172 (dk_at dksX6_heard_3 8 rfl rfl)
theorem dX6_heard_78 : decode cX6_heard 78 = .ok (.iconst 0, 1) := dk_3 (dk_at dksX6_heard_3 9 rfl rfl)
theorem dX6_heard_79 : decode cX6_heard 79 = .ok (.istore_n 3, 1) := dk_62 (dk_at dksX6_heard_3 10 rfl rfl)
theorem dX6_heard_80 : decode cX6_heard 80 = .ok (.iconst 0, 1) := dk_3 (dk_at dksX6_heard_3 11 rfl rfl)
theorem dX6_heard_81 : decode cX6_heard 81 = .ok (.istore 4, 2) := dk_54 4 (dk_at dksX6_heard_3 12 rfl rfl)
theorem dX6_heard_83 : decode cX6_heard 83 = .ok (.iload 4, 2) := dk_21 4 (dk_at dksX6_heard_3 14 rfl rfl)
theorem dX6_heard_85 : decode cX6_heard 85 = .ok (.sipush 4096, 3) := dk_17 16 0 (dk_at dksX6_heard_3 16 rfl rfl)
theorem dX6_heard_88 : decode cX6_heard 88 = .ok (.if_icmp .ge 123, 3) := dk_162 0 123 (dk_at dksX6_heard_3 19 rfl rfl)
theorem dX6_heard_91 : decode cX6_heard 91 = .ok (.aload_n 0, 1) := dk_42 (dk_at dksX6_heard_3 22 rfl rfl)
theorem dX6_heard_92 : decode cX6_heard 92 = .ok (.getfield 47, 3) := dk_180 0 47 (dk_at dksX6_heard_4 0 rfl rfl)
theorem dX6_heard_95 : decode cX6_heard 95 = .ok (.iload 4, 2) := dk_21 4 (dk_at dksX6_heard_4 3 rfl rfl)
theorem dX6_heard_97 : decode cX6_heard 97 = .ok (.iload 4, 2) := dk_21 4 (dk_at dksX6_heard_4 5 rfl rfl)
theorem dX6_heard_99 : decode cX6_heard 99 = .ok (.bipush 6, 2) := dk_16 6 (dk_at dksX6_heard_4 7 rfl rfl)
theorem dX6_heard_101 : decode cX6_heard 101 = .ok (.ishr, 1) := dk_122 (dk_at dksX6_heard_4 9 rfl rfl)
theorem dX6_heard_102 : decode cX6_heard 102 = .ok (.iload 4, 2) := dk_21 4 (dk_at dksX6_heard_4 10 rfl rfl)
theorem dX6_heard_104 : decode cX6_heard 104 = .ok (.iand, 1) := dk_126 (dk_at dksX6_heard_4 12 rfl rfl)
theorem dX6_heard_105 : decode cX6_heard 105 = .ok (.bipush 63, 2) := dk_16 63 (dk_at dksX6_heard_4 13 rfl rfl)
theorem dX6_heard_107 : decode cX6_heard 107 = .ok (.iand, 1) := dk_126 (dk_at dksX6_heard_4 15 rfl rfl)
theorem dX6_heard_108 : decode cX6_heard 108 = .ok (.ifCond .ne 7, 3) := dk_154 0 7 (dk_at dksX6_heard_4 16 rfl rfl)
theorem dX6_heard_111 : decode cX6_heard 111 = .ok (.iconst 1, 1) := dk_4 (dk_at dksX6_heard_4 19 rfl rfl)
theorem dX6_heard_112 : decode cX6_heard 112 = .ok (.goto 4, 3) := dk_167 0 4 (dk_at dksX6_heard_4 20 rfl rfl)
theorem dX6_heard_115 : decode cX6_heard 115 = .ok (.iconst 0, 1) := dk_3 (dk_at dksX6_heard_4 23 rfl rfl)
theorem dX6_heard_116 : decode cX6_heard 116 = .ok (.bastore, 1) := dk_84 (dk_at dksX6_heard_5 0 rfl rfl)
theorem dX6_heard_117 : decode cX6_heard 117 = .ok (.iconst 0, 1) := dk_3 (dk_at dksX6_heard_5 1 rfl rfl)
theorem dX6_heard_118 : decode cX6_heard 118 = .ok (.istore 5, 2) := dk_54 5 (dk_at dksX6_heard_5 2 rfl rfl)
theorem dX6_heard_120 : decode cX6_heard 120 = .ok (.iload 5, 2) := dk_21 5 (dk_at dksX6_heard_5 4 rfl rfl)
theorem dX6_heard_122 : decode cX6_heard 122 = .ok (.iload_n 1, 1) := dk_27 (dk_at dksX6_heard_5 6 rfl rfl)
theorem dX6_heard_123 : decode cX6_heard 123 = .ok (.if_icmp .ge 64, 3) := dk_162 0 64 (dk_at dksX6_heard_5 7 rfl rfl)
theorem dX6_heard_126 : decode cX6_heard 126 = .ok (.aload_n 0, 1) := dk_42 (dk_at dksX6_heard_5 10 rfl rfl)
theorem dX6_heard_127 : decode cX6_heard 127 = .ok (.getfield 47, 3) := dk_180 0 47 (dk_at dksX6_heard_5 11 rfl rfl)
theorem dX6_heard_130 : decode cX6_heard 130 = .ok (.iload 4, 2) := dk_21 4 (dk_at dksX6_heard_5 14 rfl rfl)
theorem dX6_heard_132 : decode cX6_heard 132 = .ok (.baload, 1) := dk_51 (dk_at dksX6_heard_5 16 rfl rfl)
theorem dX6_heard_133 : decode cX6_heard 133 = .ok (.ifCond .eq 54, 3) := dk_153 0 54 (dk_at dksX6_heard_5 17 rfl rfl)
theorem dX6_heard_136 : decode cX6_heard 136 = .ok (.aload_n 0, 1) := dk_42 (dk_at dksX6_heard_5 20 rfl rfl)
theorem dX6_heard_137 : decode cX6_heard 137 = .ok (.getfield 47, 3) := dk_180 0 47 (dk_at dksX6_heard_5 21 rfl rfl)
theorem dX6_heard_140 : decode cX6_heard 140 = .ok (.iload 4, 2) := dk_21 4 (dk_at dksX6_heard_6 0 rfl rfl)
theorem dX6_heard_142 : decode cX6_heard 142 = .ok (.iload 4, 2) := dk_21 4 (dk_at dksX6_heard_6 2 rfl rfl)
theorem dX6_heard_144 : decode cX6_heard 144 = .ok (.aload_n 0, 1) := dk_42 (dk_at dksX6_heard_6 4 rfl rfl)
theorem dX6_heard_145 : decode cX6_heard 145 = .ok (.getfield 22, 3) := dk_180 0 22 (dk_at dksX6_heard_6 5 rfl rfl)
theorem dX6_heard_148 : decode cX6_heard 148 = .ok (.iload 5, 2) := dk_21 5 (dk_at dksX6_heard_6 8 rfl rfl)
theorem dX6_heard_150 : decode cX6_heard 150 = .ok (.iaload, 1) := dk_46 (dk_at dksX6_heard_6 10 rfl rfl)
theorem dX6_heard_151 : decode cX6_heard 151 = .ok (.invokestatic 396, 3) := dk_184 1 140 (dk_at dksX6_heard_6 11 rfl rfl)
theorem dX6_heard_154 : decode cX6_heard 154 = .ok (.aload_n 0, 1) := dk_42 (dk_at dksX6_heard_6 14 rfl rfl)
theorem dX6_heard_155 : decode cX6_heard 155 = .ok (.getfield 22, 3) := dk_180 0 22 (dk_at dksX6_heard_6 15 rfl rfl)
theorem dX6_heard_158 : decode cX6_heard 158 = .ok (.iload 5, 2) := dk_21 5 (dk_at dksX6_heard_6 18 rfl rfl)
theorem dX6_heard_160 : decode cX6_heard 160 = .ok (.iconst 1, 1) := dk_4 (dk_at dksX6_heard_6 20 rfl rfl)
theorem dX6_heard_161 : decode cX6_heard 161 = .ok (.iadd, 1) := dk_96 (dk_at dksX6_heard_6 21 rfl rfl)
theorem dX6_heard_162 : decode cX6_heard 162 = .ok (.iaload, 1) := dk_46 (dk_at dksX6_heard_6 22 rfl rfl)
theorem dX6_heard_163 : decode cX6_heard 163 = .ok (.iconst 1, 1) := dk_4 (dk_at dksX6_heard_6 23 rfl rfl)
theorem dX6_heard_164 : decode cX6_heard 164 = .ok (.if_icmp .ne 7, 3) := dk_160 0 7 (dk_at dksX6_heard_7 0 rfl rfl)
theorem dX6_heard_167 : decode cX6_heard 167 = .ok (.iconst 1, 1) := dk_4 (dk_at dksX6_heard_7 3 rfl rfl)
theorem dX6_heard_168 : decode cX6_heard 168 = .ok (.goto 4, 3) := dk_167 0 4 (dk_at dksX6_heard_7 4 rfl rfl)
theorem dX6_heard_171 : decode cX6_heard 171 = .ok (.iconst 0, 1) := dk_3 (dk_at dksX6_heard_7 7 rfl rfl)
theorem dX6_heard_172 : decode cX6_heard 172 = .ok (.if_icmp .ne 7, 3) := dk_160 0 7 (dk_at dksX6_heard_7 8 rfl rfl)
theorem dX6_heard_175 : decode cX6_heard 175 = .ok (.iconst 1, 1) := dk_4 (dk_at dksX6_heard_7 11 rfl rfl)
theorem dX6_heard_176 : decode cX6_heard 176 = .ok (.goto 4, 3) := dk_167 0 4 (dk_at dksX6_heard_7 12 rfl rfl)
theorem dX6_heard_179 : decode cX6_heard 179 = .ok (.iconst 0, 1) := dk_3 (dk_at dksX6_heard_7 15 rfl rfl)
theorem dX6_heard_180 : decode cX6_heard 180 = .ok (.bastore, 1) := dk_84 (dk_at dksX6_heard_7 16 rfl rfl)
theorem dX6_heard_181 : decode cX6_heard 181 = .ok (.iinc 5 2, 3) := dk_132 5 2 (dk_at dksX6_heard_7 17 rfl rfl)
theorem dX6_heard_184 : decode cX6_heard 184 = .ok (.goto (-64), 3) := dk_167 255 192 (dk_at dksX6_heard_7 20 rfl rfl)
theorem dX6_heard_187 : decode cX6_heard 187 = .ok (.iload_n 3, 1) := dk_29 (dk_at dksX6_heard_7 23 rfl rfl)
theorem dX6_heard_188 : decode cX6_heard 188 = .ok (.aload_n 0, 1) := dk_42 (dk_at dksX6_heard_8 0 rfl rfl)
theorem dX6_heard_189 : decode cX6_heard 189 = .ok (.getfield 47, 3) := dk_180 0 47 (dk_at dksX6_heard_8 1 rfl rfl)
theorem dX6_heard_192 : decode cX6_heard 192 = .ok (.iload 4, 2) := dk_21 4 (dk_at dksX6_heard_8 4 rfl rfl)
theorem dX6_heard_194 : decode cX6_heard 194 = .ok (.baload, 1) := dk_51 (dk_at dksX6_heard_8 6 rfl rfl)
theorem dX6_heard_195 : decode cX6_heard 195 = .ok (.ifCond .eq 7, 3) := dk_153 0 7 (dk_at dksX6_heard_8 7 rfl rfl)
theorem dX6_heard_198 : decode cX6_heard 198 = .ok (.iconst 1, 1) := dk_4 (dk_at dksX6_heard_8 10 rfl rfl)
theorem dX6_heard_199 : decode cX6_heard 199 = .ok (.goto 4, 3) := dk_167 0 4 (dk_at dksX6_heard_8 11 rfl rfl)
theorem dX6_heard_202 : decode cX6_heard 202 = .ok (.iconst 0, 1) := dk_3 (dk_at dksX6_heard_8 14 rfl rfl)
theorem dX6_heard_203 : decode cX6_heard 203 = .ok (.iadd, 1) := dk_96 (dk_at dksX6_heard_8 15 rfl rfl)
theorem dX6_heard_204 : decode cX6_heard 204 = .ok (.istore_n 3, 1) := dk_62 (dk_at dksX6_heard_8 16 rfl rfl)
theorem dX6_heard_205 : decode cX6_heard 205 = .ok (.iinc 4 1, 3) := dk_132 4 1 (dk_at dksX6_heard_8 17 rfl rfl)
theorem dX6_heard_208 : decode cX6_heard 208 = .ok (.goto (-125), 3) := dk_167 255 131 (dk_at dksX6_heard_8 20 rfl rfl)
theorem dX6_heard_211 : decode cX6_heard 211 = .ok (.iload_n 3, 1) := dk_29 (dk_at dksX6_heard_8 23 rfl rfl)
theorem dX6_heard_212 : decode cX6_heard 212 = .ok (.ireturn, 1) := dk_172 (dk_at dksX6_heard_9 0 rfl rfl)
abbrev cX6_isLetBy : ByteArray := prog_19_method_105_code
def yX6_isLetBy : MethodName := ⟨RX6, "isLetBy", "(II)Z"⟩
def dkwX6_isLetBy_1 : List UInt8 := [167, 0, 4, 3, 172]
abbrev dktX6_isLetBy_1 : List UInt8 := dkwX6_isLetBy_1 ++ []
def dkwX6_isLetBy_0 : List UInt8 := [26, 16, 6, 122, 61, 26, 16, 63, 126, 62, 27, 28, 126, 28, 160, 0, 13, 27, 29, 126, 154, 0, 7, 4]
abbrev dktX6_isLetBy_0 : List UInt8 := dkwX6_isLetBy_0 ++ dktX6_isLetBy_1
theorem dksX6_isLetBy_0 : cX6_isLetBy.data.toList.drop 0 = dktX6_isLetBy_0 := by decide +kernel
theorem dksX6_isLetBy_1 : cX6_isLetBy.data.toList.drop 24 = dktX6_isLetBy_1 := dk_seg dksX6_isLetBy_0 24 rfl rfl
theorem dX6_isLetBy_0 : decode cX6_isLetBy 0 = .ok (.iload_n 0, 1) := dk_26 (dk_at dksX6_isLetBy_0 0 rfl rfl)
theorem dX6_isLetBy_1 : decode cX6_isLetBy 1 = .ok (.bipush 6, 2) := dk_16 6 (dk_at dksX6_isLetBy_0 1 rfl rfl)
theorem dX6_isLetBy_3 : decode cX6_isLetBy 3 = .ok (.ishr, 1) := dk_122 (dk_at dksX6_isLetBy_0 3 rfl rfl)
theorem dX6_isLetBy_4 : decode cX6_isLetBy 4 = .ok (.istore_n 2, 1) := dk_61 (dk_at dksX6_isLetBy_0 4 rfl rfl)
theorem dX6_isLetBy_5 : decode cX6_isLetBy 5 = .ok (.iload_n 0, 1) := dk_26 (dk_at dksX6_isLetBy_0 5 rfl rfl)
theorem dX6_isLetBy_6 : decode cX6_isLetBy 6 = .ok (.bipush 63, 2) := dk_16 63 (dk_at dksX6_isLetBy_0 6 rfl rfl)
theorem dX6_isLetBy_8 : decode cX6_isLetBy 8 = .ok (.iand, 1) := dk_126 (dk_at dksX6_isLetBy_0 8 rfl rfl)
theorem dX6_isLetBy_9 : decode cX6_isLetBy 9 = .ok (.istore_n 3, 1) := dk_62 (dk_at dksX6_isLetBy_0 9 rfl rfl)
theorem dX6_isLetBy_10 : decode cX6_isLetBy 10 = .ok (.iload_n 1, 1) := dk_27 (dk_at dksX6_isLetBy_0 10 rfl rfl)
theorem dX6_isLetBy_11 : decode cX6_isLetBy 11 = .ok (.iload_n 2, 1) := dk_28 (dk_at dksX6_isLetBy_0 11 rfl rfl)
theorem dX6_isLetBy_12 : decode cX6_isLetBy 12 = .ok (.iand, 1) := dk_126 (dk_at dksX6_isLetBy_0 12 rfl rfl)
theorem dX6_isLetBy_13 : decode cX6_isLetBy 13 = .ok (.iload_n 2, 1) := dk_28 (dk_at dksX6_isLetBy_0 13 rfl rfl)
theorem dX6_isLetBy_14 : decode cX6_isLetBy 14 = .ok (.if_icmp .ne 13, 3) := dk_160 0 13 (dk_at dksX6_isLetBy_0 14 rfl rfl)
theorem dX6_isLetBy_17 : decode cX6_isLetBy 17 = .ok (.iload_n 1, 1) := dk_27 (dk_at dksX6_isLetBy_0 17 rfl rfl)
theorem dX6_isLetBy_18 : decode cX6_isLetBy 18 = .ok (.iload_n 3, 1) := dk_29 (dk_at dksX6_isLetBy_0 18 rfl rfl)
theorem dX6_isLetBy_19 : decode cX6_isLetBy 19 = .ok (.iand, 1) := dk_126 (dk_at dksX6_isLetBy_0 19 rfl rfl)
theorem dX6_isLetBy_20 : decode cX6_isLetBy 20 = .ok (.ifCond .ne 7, 3) := dk_154 0 7 (dk_at dksX6_isLetBy_0 20 rfl rfl)
theorem dX6_isLetBy_23 : decode cX6_isLetBy 23 = .ok (.iconst 1, 1) := dk_4 (dk_at dksX6_isLetBy_0 23 rfl rfl)
theorem dX6_isLetBy_24 : decode cX6_isLetBy 24 = .ok (.goto 4, 3) := dk_167 0 4 (dk_at dksX6_isLetBy_1 0 rfl rfl)
theorem dX6_isLetBy_27 : decode cX6_isLetBy 27 = .ok (.iconst 0, 1) := dk_3 (dk_at dksX6_isLetBy_1 3 rfl rfl)
theorem dX6_isLetBy_28 : decode cX6_isLetBy 28 = .ok (.ireturn, 1) := dk_172 (dk_at dksX6_isLetBy_1 4 rfl rfl)
abbrev cX6_send : ByteArray := prog_19_method_108_code
def yX6_send : MethodName := ⟨RX6, "send", "()I"⟩
def dkwX6_send_5 : List UInt8 := [27, 21, 5, 100, 184, 1, 21, 62, 21, 4, 61, 132, 4, 1, 167, 255, 162, 28, 172]
abbrev dktX6_send_5 : List UInt8 := dkwX6_send_5 ++ []
def dkwX6_send_4 : List UInt8 := [132, 6, 1, 167, 255, 215, 21, 5, 27, 21, 5, 100, 184, 1, 21, 29, 161, 0, 6, 167, 0, 16, 21, 5]
abbrev dktX6_send_4 : List UInt8 := dkwX6_send_4 ++ dktX6_send_5
def dkwX6_send_3 : List UInt8 := [21, 6, 51, 153, 0, 17, 21, 6, 21, 4, 184, 1, 140, 153, 0, 7, 4, 167, 0, 4, 3, 96, 54, 5]
abbrev dktX6_send_3 : List UInt8 := dkwX6_send_3 ++ dktX6_send_4
def dkwX6_send_2 : List UInt8 := [164, 0, 88, 3, 54, 5, 3, 54, 6, 21, 6, 17, 16, 0, 162, 0, 39, 21, 5, 42, 180, 0, 47]
abbrev dktX6_send_2 : List UInt8 := dkwX6_send_2 ++ dktX6_send_3
def dkwX6_send_1 : List UInt8 := [158, 0, 5, 3, 172, 2, 61, 19, 1, 146, 62, 3, 54, 4, 21, 4, 16, 64, 162, 0, 93, 27, 4]
abbrev dktX6_send_1 : List UInt8 := dkwX6_send_1 ++ dktX6_send_2
def dkwX6_send_0 : List UInt8 := [42, 182, 1, 143, 60, 42, 27, 2, 160, 0, 7, 4, 167, 0, 4, 3, 181, 0, 54, 42, 180, 0, 54]
abbrev dktX6_send_0 : List UInt8 := dkwX6_send_0 ++ dktX6_send_1
theorem dksX6_send_0 : cX6_send.data.toList.drop 0 = dktX6_send_0 := by decide +kernel
theorem dksX6_send_1 : cX6_send.data.toList.drop 23 = dktX6_send_1 := dk_seg dksX6_send_0 23 rfl rfl
theorem dksX6_send_2 : cX6_send.data.toList.drop 46 = dktX6_send_2 := dk_seg dksX6_send_1 23 rfl rfl
theorem dksX6_send_3 : cX6_send.data.toList.drop 69 = dktX6_send_3 := dk_seg dksX6_send_2 23 rfl rfl
theorem dksX6_send_4 : cX6_send.data.toList.drop 93 = dktX6_send_4 := dk_seg dksX6_send_3 24 rfl rfl
theorem dksX6_send_5 : cX6_send.data.toList.drop 117 = dktX6_send_5 := dk_seg dksX6_send_4 24 rfl rfl
theorem dX6_send_0 : decode cX6_send 0 = .ok (.aload_n 0, 1) := dk_42 (dk_at dksX6_send_0 0 rfl rfl)
theorem dX6_send_1 : decode cX6_send 1 = .ok (.invokevirtual 399, 3) := dk_182 1 143 (dk_at dksX6_send_0 1 rfl rfl)
theorem dX6_send_4 : decode cX6_send 4 = .ok (.istore_n 1, 1) := dk_60 (dk_at dksX6_send_0 4 rfl rfl)
theorem dX6_send_5 : decode cX6_send 5 = .ok (.aload_n 0, 1) := dk_42 (dk_at dksX6_send_0 5 rfl rfl)
theorem dX6_send_6 : decode cX6_send 6 = .ok (.iload_n 1, 1) := dk_27 (dk_at dksX6_send_0 6 rfl rfl)
theorem dX6_send_7 : decode cX6_send 7 = .ok (.iconst (-1), 1) := dk_2 (dk_at dksX6_send_0 7 rfl rfl)
theorem dX6_send_8 : decode cX6_send 8 = .ok (.if_icmp .ne 7, 3) := dk_160 0 7 (dk_at dksX6_send_0 8 rfl rfl)
theorem dX6_send_11 : decode cX6_send 11 = .ok (.iconst 1, 1) := dk_4 (dk_at dksX6_send_0 11 rfl rfl)
theorem dX6_send_12 : decode cX6_send 12 = .ok (.goto 4, 3) := dk_167 0 4 (dk_at dksX6_send_0 12 rfl rfl)
theorem dX6_send_15 : decode cX6_send 15 = .ok (.iconst 0, 1) := dk_3 (dk_at dksX6_send_0 15 rfl rfl)
theorem dX6_send_16 : decode cX6_send 16 = .ok (.putfield 54, 3) := dk_181 0 54 (dk_at dksX6_send_0 16 rfl rfl)
theorem dX6_send_19 : decode cX6_send 19 = .ok (.aload_n 0, 1) := dk_42 (dk_at dksX6_send_0 19 rfl rfl)
theorem dX6_send_20 : decode cX6_send 20 = .ok (.getfield 54, 3) := dk_180 0 54 (dk_at dksX6_send_0 20 rfl rfl)
theorem dX6_send_23 : decode cX6_send 23 = .ok (.ifCond .le 5, 3) := dk_158 0 5 (dk_at dksX6_send_1 0 rfl rfl)
theorem dX6_send_26 : decode cX6_send 26 = .ok (.iconst 0, 1) := dk_3 (dk_at dksX6_send_1 3 rfl rfl)
theorem dX6_send_27 : decode cX6_send 27 = .ok (.ireturn, 1) := dk_172 (dk_at dksX6_send_1 4 rfl rfl)
theorem dX6_send_28 : decode cX6_send 28 = .ok (.iconst (-1), 1) := dk_2 (dk_at dksX6_send_1 5 rfl rfl)
theorem dX6_send_29 : decode cX6_send 29 = .ok (.istore_n 2, 1) := dk_61 (dk_at dksX6_send_1 6 rfl rfl)
theorem dX6_send_30 : decode cX6_send 30 = .ok (.ldc_w 402, 3) := dk_19 1 146 (dk_at dksX6_send_1 7 rfl rfl)
theorem dX6_send_33 : decode cX6_send 33 = .ok (.istore_n 3, 1) := dk_62 (dk_at dksX6_send_1 10 rfl rfl)
theorem dX6_send_34 : decode cX6_send 34 = .ok (.iconst 0, 1) := dk_3 (dk_at dksX6_send_1 11 rfl rfl)
theorem dX6_send_35 : decode cX6_send 35 = .ok (.istore 4, 2) := dk_54 4 (dk_at dksX6_send_1 12 rfl rfl)
theorem dX6_send_37 : decode cX6_send 37 = .ok (.iload 4, 2) := dk_21 4 (dk_at dksX6_send_1 14 rfl rfl)
theorem dX6_send_39 : decode cX6_send 39 = .ok (.bipush 64, 2) := dk_16 64 (dk_at dksX6_send_1 16 rfl rfl)
theorem dX6_send_41 : decode cX6_send 41 = .ok (.if_icmp .ge 93, 3) := dk_162 0 93 (dk_at dksX6_send_1 18 rfl rfl)
theorem dX6_send_44 : decode cX6_send 44 = .ok (.iload_n 1, 1) := dk_27 (dk_at dksX6_send_1 21 rfl rfl)
theorem dX6_send_45 : decode cX6_send 45 = .ok (.iconst 1, 1) := dk_4 (dk_at dksX6_send_1 22 rfl rfl)
theorem dX6_send_46 : decode cX6_send 46 = .ok (.if_icmp .le 88, 3) := dk_164 0 88 (dk_at dksX6_send_2 0 rfl rfl)
theorem dX6_send_49 : decode cX6_send 49 = .ok (.iconst 0, 1) := dk_3 (dk_at dksX6_send_2 3 rfl rfl)
theorem dX6_send_50 : decode cX6_send 50 = .ok (.istore 5, 2) := dk_54 5 (dk_at dksX6_send_2 4 rfl rfl)
theorem dX6_send_52 : decode cX6_send 52 = .ok (.iconst 0, 1) := dk_3 (dk_at dksX6_send_2 6 rfl rfl)
theorem dX6_send_53 : decode cX6_send 53 = .ok (.istore 6, 2) := dk_54 6 (dk_at dksX6_send_2 7 rfl rfl)
theorem dX6_send_55 : decode cX6_send 55 = .ok (.iload 6, 2) := dk_21 6 (dk_at dksX6_send_2 9 rfl rfl)
theorem dX6_send_57 : decode cX6_send 57 = .ok (.sipush 4096, 3) := dk_17 16 0 (dk_at dksX6_send_2 11 rfl rfl)
theorem dX6_send_60 : decode cX6_send 60 = .ok (.if_icmp .ge 39, 3) := dk_162 0 39 (dk_at dksX6_send_2 14 rfl rfl)
theorem dX6_send_63 : decode cX6_send 63 = .ok (.iload 5, 2) := dk_21 5 (dk_at dksX6_send_2 17 rfl rfl)
theorem dX6_send_65 : decode cX6_send 65 = .ok (.aload_n 0, 1) := dk_42 (dk_at dksX6_send_2 19 rfl rfl)
theorem dX6_send_66 : decode cX6_send 66 = .ok (.getfield 47, 3) := dk_180 0 47 (dk_at dksX6_send_2 20 rfl rfl)
theorem dX6_send_69 : decode cX6_send 69 = .ok (.iload 6, 2) := dk_21 6 (dk_at dksX6_send_3 0 rfl rfl)
theorem dX6_send_71 : decode cX6_send 71 = .ok (.baload, 1) := dk_51 (dk_at dksX6_send_3 2 rfl rfl)
theorem dX6_send_72 : decode cX6_send 72 = .ok (.ifCond .eq 17, 3) := dk_153 0 17 (dk_at dksX6_send_3 3 rfl rfl)
theorem dX6_send_75 : decode cX6_send 75 = .ok (.iload 6, 2) := dk_21 6 (dk_at dksX6_send_3 6 rfl rfl)
theorem dX6_send_77 : decode cX6_send 77 = .ok (.iload 4, 2) := dk_21 4 (dk_at dksX6_send_3 8 rfl rfl)
theorem dX6_send_79 : decode cX6_send 79 = .ok (.invokestatic 396, 3) := dk_184 1 140 (dk_at dksX6_send_3 10 rfl rfl)
theorem dX6_send_82 : decode cX6_send 82 = .ok (.ifCond .eq 7, 3) := dk_153 0 7 (dk_at dksX6_send_3 13 rfl rfl)
theorem dX6_send_85 : decode cX6_send 85 = .ok (.iconst 1, 1) := dk_4 (dk_at dksX6_send_3 16 rfl rfl)
theorem dX6_send_86 : decode cX6_send 86 = .ok (.goto 4, 3) := dk_167 0 4 (dk_at dksX6_send_3 17 rfl rfl)
theorem dX6_send_89 : decode cX6_send 89 = .ok (.iconst 0, 1) := dk_3 (dk_at dksX6_send_3 20 rfl rfl)
theorem dX6_send_90 : decode cX6_send 90 = .ok (.iadd, 1) := dk_96 (dk_at dksX6_send_3 21 rfl rfl)
theorem dX6_send_91 : decode cX6_send 91 = .ok (.istore 5, 2) := dk_54 5 (dk_at dksX6_send_3 22 rfl rfl)
theorem dX6_send_93 : decode cX6_send 93 = .ok (.iinc 6 1, 3) := dk_132 6 1 (dk_at dksX6_send_4 0 rfl rfl)
theorem dX6_send_96 : decode cX6_send 96 = .ok (.goto (-41), 3) := dk_167 255 215 (dk_at dksX6_send_4 3 rfl rfl)
theorem dX6_send_99 : decode cX6_send 99 = .ok (.iload 5, 2) := dk_21 5 (dk_at dksX6_send_4 6 rfl rfl)
theorem dX6_send_101 : decode cX6_send 101 = .ok (.iload_n 1, 1) := dk_27 (dk_at dksX6_send_4 8 rfl rfl)
theorem dX6_send_102 : decode cX6_send 102 = .ok (.iload 5, 2) := dk_21 5 (dk_at dksX6_send_4 9 rfl rfl)
theorem dX6_send_104 : decode cX6_send 104 = .ok (.isub, 1) := dk_100 (dk_at dksX6_send_4 11 rfl rfl)
theorem dX6_send_105 : decode cX6_send 105 = .ok (.invokestatic 277, 3) := dk_184 1 21 (dk_at dksX6_send_4 12 rfl rfl)
theorem dX6_send_108 : decode cX6_send 108 = .ok (.iload_n 3, 1) := dk_29 (dk_at dksX6_send_4 15 rfl rfl)
theorem dX6_send_109 : decode cX6_send 109 = .ok (.if_icmp .lt 6, 3) := dk_161 0 6 (dk_at dksX6_send_4 16 rfl rfl)
theorem dX6_send_112 : decode cX6_send 112 = .ok (.goto 16, 3) := dk_167 0 16 (dk_at dksX6_send_4 19 rfl rfl)
theorem dX6_send_115 : decode cX6_send 115 = .ok (.iload 5, 2) := dk_21 5 (dk_at dksX6_send_4 22 rfl rfl)
theorem dX6_send_117 : decode cX6_send 117 = .ok (.iload_n 1, 1) := dk_27 (dk_at dksX6_send_5 0 rfl rfl)
theorem dX6_send_118 : decode cX6_send 118 = .ok (.iload 5, 2) := dk_21 5 (dk_at dksX6_send_5 1 rfl rfl)
theorem dX6_send_120 : decode cX6_send 120 = .ok (.isub, 1) := dk_100 (dk_at dksX6_send_5 3 rfl rfl)
theorem dX6_send_121 : decode cX6_send 121 = .ok (.invokestatic 277, 3) := dk_184 1 21 (dk_at dksX6_send_5 4 rfl rfl)
theorem dX6_send_124 : decode cX6_send 124 = .ok (.istore_n 3, 1) := dk_62 (dk_at dksX6_send_5 7 rfl rfl)
theorem dX6_send_125 : decode cX6_send 125 = .ok (.iload 4, 2) := dk_21 4 (dk_at dksX6_send_5 8 rfl rfl)
theorem dX6_send_127 : decode cX6_send 127 = .ok (.istore_n 2, 1) := dk_61 (dk_at dksX6_send_5 10 rfl rfl)
theorem dX6_send_128 : decode cX6_send 128 = .ok (.iinc 4 1, 3) := dk_132 4 1 (dk_at dksX6_send_5 11 rfl rfl)
theorem dX6_send_131 : decode cX6_send 131 = .ok (.goto (-94), 3) := dk_167 255 162 (dk_at dksX6_send_5 14 rfl rfl)
theorem dX6_send_134 : decode cX6_send 134 = .ok (.iload_n 2, 1) := dk_28 (dk_at dksX6_send_5 17 rfl rfl)
theorem dX6_send_135 : decode cX6_send 135 = .ok (.ireturn, 1) := dk_172 (dk_at dksX6_send_5 18 rfl rfl)
abbrev cX6_hand : ByteArray := prog_19_method_110_code
def yX6_hand : MethodName := ⟨RX6, "hand", "(Z)I"⟩
def dkwX6_hand_7 : List UInt8 := [21, 5, 167, 0, 20, 21, 5, 2, 160, 0, 7, 3, 167, 0, 10, 42, 21, 5, 28, 182, 1, 147, 172]
abbrev dktX6_hand_7 : List UInt8 := dkwX6_hand_7 ++ []
def dkwX6_hand_6 : List UInt8 := [42, 21, 5, 28, 182, 1, 147, 162, 0, 7, 21, 6, 54, 5, 132, 6, 1, 167, 255, 215, 27, 154, 0, 8]
abbrev dktX6_hand_6 : List UInt8 := dkwX6_hand_6 ++ dktX6_hand_7
def dkwX6_hand_5 : List UInt8 := [21, 6, 42, 180, 0, 7, 6, 46, 162, 0, 36, 21, 5, 2, 159, 0, 20, 42, 21, 6, 28, 182, 1, 147]
abbrev dktX6_hand_5 : List UInt8 := dkwX6_hand_5 ++ dktX6_hand_6
def dkwX6_hand_4 : List UInt8 := [3, 167, 0, 4, 4, 181, 0, 54, 42, 180, 0, 54, 158, 0, 5, 3, 172, 2, 54, 5, 3, 54, 6]
abbrev dktX6_hand_4 : List UInt8 := dkwX6_hand_4 ++ dktX6_hand_5
def dkwX6_hand_3 : List UInt8 := [29, 4, 42, 180, 0, 22, 21, 5, 46, 120, 128, 62, 132, 5, 1, 167, 255, 188, 42, 21, 4, 153, 0, 7]
abbrev dktX6_hand_3 : List UInt8 := dkwX6_hand_3 ++ dktX6_hand_4
def dkwX6_hand_2 : List UInt8 := [180, 0, 22, 21, 5, 46, 184, 0, 74, 154, 0, 7, 4, 167, 0, 4, 3, 54, 4, 21, 4, 153, 0, 15]
abbrev dktX6_hand_2 : List UInt8 := dkwX6_hand_2 ++ dktX6_hand_3
def dkwX6_hand_1 : List UInt8 := [21, 4, 153, 0, 63, 42, 180, 0, 22, 21, 5, 46, 42, 180, 0, 7, 7, 46, 162, 0, 21, 29, 42]
abbrev dktX6_hand_1 : List UInt8 := dkwX6_hand_1 ++ dktX6_hand_2
def dkwX6_hand_0 : List UInt8 := [42, 180, 0, 81, 61, 42, 3, 181, 0, 81, 3, 62, 4, 54, 4, 3, 54, 5, 21, 5, 28, 162, 0, 68]
abbrev dktX6_hand_0 : List UInt8 := dkwX6_hand_0 ++ dktX6_hand_1
theorem dksX6_hand_0 : cX6_hand.data.toList.drop 0 = dktX6_hand_0 := by decide +kernel
theorem dksX6_hand_1 : cX6_hand.data.toList.drop 24 = dktX6_hand_1 := dk_seg dksX6_hand_0 24 rfl rfl
theorem dksX6_hand_2 : cX6_hand.data.toList.drop 47 = dktX6_hand_2 := dk_seg dksX6_hand_1 23 rfl rfl
theorem dksX6_hand_3 : cX6_hand.data.toList.drop 71 = dktX6_hand_3 := dk_seg dksX6_hand_2 24 rfl rfl
theorem dksX6_hand_4 : cX6_hand.data.toList.drop 95 = dktX6_hand_4 := dk_seg dksX6_hand_3 24 rfl rfl
theorem dksX6_hand_5 : cX6_hand.data.toList.drop 118 = dktX6_hand_5 := dk_seg dksX6_hand_4 23 rfl rfl
theorem dksX6_hand_6 : cX6_hand.data.toList.drop 142 = dktX6_hand_6 := dk_seg dksX6_hand_5 24 rfl rfl
theorem dksX6_hand_7 : cX6_hand.data.toList.drop 166 = dktX6_hand_7 := dk_seg dksX6_hand_6 24 rfl rfl
theorem dX6_hand_0 : decode cX6_hand 0 = .ok (.aload_n 0, 1) := dk_42 (dk_at dksX6_hand_0 0 rfl rfl)
theorem dX6_hand_1 : decode cX6_hand 1 = .ok (.getfield 81, 3) := dk_180 0 81 (dk_at dksX6_hand_0 1 rfl rfl)
theorem dX6_hand_4 : decode cX6_hand 4 = .ok (.istore_n 2, 1) := dk_61 (dk_at dksX6_hand_0 4 rfl rfl)
theorem dX6_hand_5 : decode cX6_hand 5 = .ok (.aload_n 0, 1) := dk_42 (dk_at dksX6_hand_0 5 rfl rfl)
theorem dX6_hand_6 : decode cX6_hand 6 = .ok (.iconst 0, 1) := dk_3 (dk_at dksX6_hand_0 6 rfl rfl)
theorem dX6_hand_7 : decode cX6_hand 7 = .ok (.putfield 81, 3) := dk_181 0 81 (dk_at dksX6_hand_0 7 rfl rfl)
theorem dX6_hand_10 : decode cX6_hand 10 = .ok (.iconst 0, 1) := dk_3 (dk_at dksX6_hand_0 10 rfl rfl)
theorem dX6_hand_11 : decode cX6_hand 11 = .ok (.istore_n 3, 1) := dk_62 (dk_at dksX6_hand_0 11 rfl rfl)
theorem dX6_hand_12 : decode cX6_hand 12 = .ok (.iconst 1, 1) := dk_4 (dk_at dksX6_hand_0 12 rfl rfl)
theorem dX6_hand_13 : decode cX6_hand 13 = .ok (.istore 4, 2) := dk_54 4 (dk_at dksX6_hand_0 13 rfl rfl)
theorem dX6_hand_15 : decode cX6_hand 15 = .ok (.iconst 0, 1) := dk_3 (dk_at dksX6_hand_0 15 rfl rfl)
theorem dX6_hand_16 : decode cX6_hand 16 = .ok (.istore 5, 2) := dk_54 5 (dk_at dksX6_hand_0 16 rfl rfl)
theorem dX6_hand_18 : decode cX6_hand 18 = .ok (.iload 5, 2) := dk_21 5 (dk_at dksX6_hand_0 18 rfl rfl)
theorem dX6_hand_20 : decode cX6_hand 20 = .ok (.iload_n 2, 1) := dk_28 (dk_at dksX6_hand_0 20 rfl rfl)
theorem dX6_hand_21 : decode cX6_hand 21 = .ok (.if_icmp .ge 68, 3) := dk_162 0 68 (dk_at dksX6_hand_0 21 rfl rfl)
theorem dX6_hand_24 : decode cX6_hand 24 = .ok (.iload 4, 2) := dk_21 4 (dk_at dksX6_hand_1 0 rfl rfl)
theorem dX6_hand_26 : decode cX6_hand 26 = .ok (.ifCond .eq 63, 3) := dk_153 0 63 (dk_at dksX6_hand_1 2 rfl rfl)
theorem dX6_hand_29 : decode cX6_hand 29 = .ok (.aload_n 0, 1) := dk_42 (dk_at dksX6_hand_1 5 rfl rfl)
theorem dX6_hand_30 : decode cX6_hand 30 = .ok (.getfield 22, 3) := dk_180 0 22 (dk_at dksX6_hand_1 6 rfl rfl)
theorem dX6_hand_33 : decode cX6_hand 33 = .ok (.iload 5, 2) := dk_21 5 (dk_at dksX6_hand_1 9 rfl rfl)
theorem dX6_hand_35 : decode cX6_hand 35 = .ok (.iaload, 1) := dk_46 (dk_at dksX6_hand_1 11 rfl rfl)
theorem dX6_hand_36 : decode cX6_hand 36 = .ok (.aload_n 0, 1) := dk_42 (dk_at dksX6_hand_1 12 rfl rfl)
theorem dX6_hand_37 : decode cX6_hand 37 = .ok (.getfield 7, 3) := dk_180 0 7 (dk_at dksX6_hand_1 13 rfl rfl)
theorem dX6_hand_40 : decode cX6_hand 40 = .ok (.iconst 4, 1) := dk_7 (dk_at dksX6_hand_1 16 rfl rfl)
theorem dX6_hand_41 : decode cX6_hand 41 = .ok (.iaload, 1) := dk_46 (dk_at dksX6_hand_1 17 rfl rfl)
theorem dX6_hand_42 : decode cX6_hand 42 = .ok (.if_icmp .ge 21, 3) := dk_162 0 21 (dk_at dksX6_hand_1 18 rfl rfl)
theorem dX6_hand_45 : decode cX6_hand 45 = .ok (.iload_n 3, 1) := dk_29 (dk_at dksX6_hand_1 21 rfl rfl)
theorem dX6_hand_46 : decode cX6_hand 46 = .ok (.aload_n 0, 1) := dk_42 (dk_at dksX6_hand_1 22 rfl rfl)
theorem dX6_hand_47 : decode cX6_hand 47 = .ok (.getfield 22, 3) := dk_180 0 22 (dk_at dksX6_hand_2 0 rfl rfl)
theorem dX6_hand_50 : decode cX6_hand 50 = .ok (.iload 5, 2) := dk_21 5 (dk_at dksX6_hand_2 3 rfl rfl)
theorem dX6_hand_52 : decode cX6_hand 52 = .ok (.iaload, 1) := dk_46 (dk_at dksX6_hand_2 5 rfl rfl)
theorem dX6_hand_53 : decode cX6_hand 53 = .ok (.invokestatic 74, 3) := dk_184 0 74 (dk_at dksX6_hand_2 6 rfl rfl)
theorem dX6_hand_56 : decode cX6_hand 56 = .ok (.ifCond .ne 7, 3) := dk_154 0 7 (dk_at dksX6_hand_2 9 rfl rfl)
theorem dX6_hand_59 : decode cX6_hand 59 = .ok (.iconst 1, 1) := dk_4 (dk_at dksX6_hand_2 12 rfl rfl)
theorem dX6_hand_60 : decode cX6_hand 60 = .ok (.goto 4, 3) := dk_167 0 4 (dk_at dksX6_hand_2 13 rfl rfl)
theorem dX6_hand_63 : decode cX6_hand 63 = .ok (.iconst 0, 1) := dk_3 (dk_at dksX6_hand_2 16 rfl rfl)
theorem dX6_hand_64 : decode cX6_hand 64 = .ok (.istore 4, 2) := dk_54 4 (dk_at dksX6_hand_2 17 rfl rfl)
theorem dX6_hand_66 : decode cX6_hand 66 = .ok (.iload 4, 2) := dk_21 4 (dk_at dksX6_hand_2 19 rfl rfl)
theorem dX6_hand_68 : decode cX6_hand 68 = .ok (.ifCond .eq 15, 3) := dk_153 0 15 (dk_at dksX6_hand_2 21 rfl rfl)
theorem dX6_hand_71 : decode cX6_hand 71 = .ok (.iload_n 3, 1) := dk_29 (dk_at dksX6_hand_3 0 rfl rfl)
theorem dX6_hand_72 : decode cX6_hand 72 = .ok (.iconst 1, 1) := dk_4 (dk_at dksX6_hand_3 1 rfl rfl)
theorem dX6_hand_73 : decode cX6_hand 73 = .ok (.aload_n 0, 1) := dk_42 (dk_at dksX6_hand_3 2 rfl rfl)
theorem dX6_hand_74 : decode cX6_hand 74 = .ok (.getfield 22, 3) := dk_180 0 22 (dk_at dksX6_hand_3 3 rfl rfl)
theorem dX6_hand_77 : decode cX6_hand 77 = .ok (.iload 5, 2) := dk_21 5 (dk_at dksX6_hand_3 6 rfl rfl)
theorem dX6_hand_79 : decode cX6_hand 79 = .ok (.iaload, 1) := dk_46 (dk_at dksX6_hand_3 8 rfl rfl)
theorem dX6_hand_80 : decode cX6_hand 80 = .ok (.ishl, 1) := dk_120 (dk_at dksX6_hand_3 9 rfl rfl)
theorem dX6_hand_81 : decode cX6_hand 81 = .ok (.ior, 1) := dk_128 (dk_at dksX6_hand_3 10 rfl rfl)
theorem dX6_hand_82 : decode cX6_hand 82 = .ok (.istore_n 3, 1) := dk_62 (dk_at dksX6_hand_3 11 rfl rfl)
theorem dX6_hand_83 : decode cX6_hand 83 = .ok (.iinc 5 1, 3) := dk_132 5 1 (dk_at dksX6_hand_3 12 rfl rfl)
theorem dX6_hand_86 : decode cX6_hand 86 = .ok (.goto (-68), 3) := dk_167 255 188 (dk_at dksX6_hand_3 15 rfl rfl)
theorem dX6_hand_89 : decode cX6_hand 89 = .ok (.aload_n 0, 1) := dk_42 (dk_at dksX6_hand_3 18 rfl rfl)
theorem dX6_hand_90 : decode cX6_hand 90 = .ok (.iload 4, 2) := dk_21 4 (dk_at dksX6_hand_3 19 rfl rfl)
theorem dX6_hand_92 : decode cX6_hand 92 = .ok (.ifCond .eq 7, 3) := dk_153 0 7 (dk_at dksX6_hand_3 21 rfl rfl)
theorem dX6_hand_95 : decode cX6_hand 95 = .ok (.iconst 0, 1) := dk_3 (dk_at dksX6_hand_4 0 rfl rfl)
theorem dX6_hand_96 : decode cX6_hand 96 = .ok (.goto 4, 3) := dk_167 0 4 (dk_at dksX6_hand_4 1 rfl rfl)
theorem dX6_hand_99 : decode cX6_hand 99 = .ok (.iconst 1, 1) := dk_4 (dk_at dksX6_hand_4 4 rfl rfl)
theorem dX6_hand_100 : decode cX6_hand 100 = .ok (.putfield 54, 3) := dk_181 0 54 (dk_at dksX6_hand_4 5 rfl rfl)
theorem dX6_hand_103 : decode cX6_hand 103 = .ok (.aload_n 0, 1) := dk_42 (dk_at dksX6_hand_4 8 rfl rfl)
theorem dX6_hand_104 : decode cX6_hand 104 = .ok (.getfield 54, 3) := dk_180 0 54 (dk_at dksX6_hand_4 9 rfl rfl)
theorem dX6_hand_107 : decode cX6_hand 107 = .ok (.ifCond .le 5, 3) := dk_158 0 5 (dk_at dksX6_hand_4 12 rfl rfl)
theorem dX6_hand_110 : decode cX6_hand 110 = .ok (.iconst 0, 1) := dk_3 (dk_at dksX6_hand_4 15 rfl rfl)
theorem dX6_hand_111 : decode cX6_hand 111 = .ok (.ireturn, 1) := dk_172 (dk_at dksX6_hand_4 16 rfl rfl)
theorem dX6_hand_112 : decode cX6_hand 112 = .ok (.iconst (-1), 1) := dk_2 (dk_at dksX6_hand_4 17 rfl rfl)
theorem dX6_hand_113 : decode cX6_hand 113 = .ok (.istore 5, 2) := dk_54 5 (dk_at dksX6_hand_4 18 rfl rfl)
theorem dX6_hand_115 : decode cX6_hand 115 = .ok (.iconst 0, 1) := dk_3 (dk_at dksX6_hand_4 20 rfl rfl)
theorem dX6_hand_116 : decode cX6_hand 116 = .ok (.istore 6, 2) := dk_54 6 (dk_at dksX6_hand_4 21 rfl rfl)
theorem dX6_hand_118 : decode cX6_hand 118 = .ok (.iload 6, 2) := dk_21 6 (dk_at dksX6_hand_5 0 rfl rfl)
theorem dX6_hand_120 : decode cX6_hand 120 = .ok (.aload_n 0, 1) := dk_42 (dk_at dksX6_hand_5 2 rfl rfl)
theorem dX6_hand_121 : decode cX6_hand 121 = .ok (.getfield 7, 3) := dk_180 0 7 (dk_at dksX6_hand_5 3 rfl rfl)
theorem dX6_hand_124 : decode cX6_hand 124 = .ok (.iconst 3, 1) := dk_6 (dk_at dksX6_hand_5 6 rfl rfl)
theorem dX6_hand_125 : decode cX6_hand 125 = .ok (.iaload, 1) := dk_46 (dk_at dksX6_hand_5 7 rfl rfl)
theorem dX6_hand_126 : decode cX6_hand 126 = .ok (.if_icmp .ge 36, 3) := dk_162 0 36 (dk_at dksX6_hand_5 8 rfl rfl)
theorem dX6_hand_129 : decode cX6_hand 129 = .ok (.iload 5, 2) := dk_21 5 (dk_at dksX6_hand_5 11 rfl rfl)
theorem dX6_hand_131 : decode cX6_hand 131 = .ok (.iconst (-1), 1) := dk_2 (dk_at dksX6_hand_5 13 rfl rfl)
theorem dX6_hand_132 : decode cX6_hand 132 = .ok (.if_icmp .eq 20, 3) := dk_159 0 20 (dk_at dksX6_hand_5 14 rfl rfl)
theorem dX6_hand_135 : decode cX6_hand 135 = .ok (.aload_n 0, 1) := dk_42 (dk_at dksX6_hand_5 17 rfl rfl)
theorem dX6_hand_136 : decode cX6_hand 136 = .ok (.iload 6, 2) := dk_21 6 (dk_at dksX6_hand_5 18 rfl rfl)
theorem dX6_hand_138 : decode cX6_hand 138 = .ok (.iload_n 2, 1) := dk_28 (dk_at dksX6_hand_5 20 rfl rfl)
theorem dX6_hand_139 : decode cX6_hand 139 = .ok (.invokevirtual 403, 3) := dk_182 1 147 (dk_at dksX6_hand_5 21 rfl rfl)
theorem dX6_hand_142 : decode cX6_hand 142 = .ok (.aload_n 0, 1) := dk_42 (dk_at dksX6_hand_6 0 rfl rfl)
theorem dX6_hand_143 : decode cX6_hand 143 = .ok (.iload 5, 2) := dk_21 5 (dk_at dksX6_hand_6 1 rfl rfl)
theorem dX6_hand_145 : decode cX6_hand 145 = .ok (.iload_n 2, 1) := dk_28 (dk_at dksX6_hand_6 3 rfl rfl)
theorem dX6_hand_146 : decode cX6_hand 146 = .ok (.invokevirtual 403, 3) := dk_182 1 147 (dk_at dksX6_hand_6 4 rfl rfl)
theorem dX6_hand_149 : decode cX6_hand 149 = .ok (.if_icmp .ge 7, 3) := dk_162 0 7 (dk_at dksX6_hand_6 7 rfl rfl)
theorem dX6_hand_152 : decode cX6_hand 152 = .ok (.iload 6, 2) := dk_21 6 (dk_at dksX6_hand_6 10 rfl rfl)
theorem dX6_hand_154 : decode cX6_hand 154 = .ok (.istore 5, 2) := dk_54 5 (dk_at dksX6_hand_6 12 rfl rfl)
theorem dX6_hand_156 : decode cX6_hand 156 = .ok (.iinc 6 1, 3) := dk_132 6 1 (dk_at dksX6_hand_6 14 rfl rfl)
theorem dX6_hand_159 : decode cX6_hand 159 = .ok (.goto (-41), 3) := dk_167 255 215 (dk_at dksX6_hand_6 17 rfl rfl)
theorem dX6_hand_162 : decode cX6_hand 162 = .ok (.iload_n 1, 1) := dk_27 (dk_at dksX6_hand_6 20 rfl rfl)
theorem dX6_hand_163 : decode cX6_hand 163 = .ok (.ifCond .ne 8, 3) := dk_154 0 8 (dk_at dksX6_hand_6 21 rfl rfl)
theorem dX6_hand_166 : decode cX6_hand 166 = .ok (.iload 5, 2) := dk_21 5 (dk_at dksX6_hand_7 0 rfl rfl)
theorem dX6_hand_168 : decode cX6_hand 168 = .ok (.goto 20, 3) := dk_167 0 20 (dk_at dksX6_hand_7 2 rfl rfl)
theorem dX6_hand_171 : decode cX6_hand 171 = .ok (.iload 5, 2) := dk_21 5 (dk_at dksX6_hand_7 5 rfl rfl)
theorem dX6_hand_173 : decode cX6_hand 173 = .ok (.iconst (-1), 1) := dk_2 (dk_at dksX6_hand_7 7 rfl rfl)
theorem dX6_hand_174 : decode cX6_hand 174 = .ok (.if_icmp .ne 7, 3) := dk_160 0 7 (dk_at dksX6_hand_7 8 rfl rfl)
theorem dX6_hand_177 : decode cX6_hand 177 = .ok (.iconst 0, 1) := dk_3 (dk_at dksX6_hand_7 11 rfl rfl)
theorem dX6_hand_178 : decode cX6_hand 178 = .ok (.goto 10, 3) := dk_167 0 10 (dk_at dksX6_hand_7 12 rfl rfl)
theorem dX6_hand_181 : decode cX6_hand 181 = .ok (.aload_n 0, 1) := dk_42 (dk_at dksX6_hand_7 15 rfl rfl)
theorem dX6_hand_182 : decode cX6_hand 182 = .ok (.iload 5, 2) := dk_21 5 (dk_at dksX6_hand_7 16 rfl rfl)
theorem dX6_hand_184 : decode cX6_hand 184 = .ok (.iload_n 2, 1) := dk_28 (dk_at dksX6_hand_7 18 rfl rfl)
theorem dX6_hand_185 : decode cX6_hand 185 = .ok (.invokevirtual 403, 3) := dk_182 1 147 (dk_at dksX6_hand_7 19 rfl rfl)
theorem dX6_hand_188 : decode cX6_hand 188 = .ok (.ireturn, 1) := dk_172 (dk_at dksX6_hand_7 22 rfl rfl)
abbrev cX6_wrongBy : ByteArray := prog_19_method_109_code
def yX6_wrongBy : MethodName := ⟨RX6, "wrongBy", "(II)I"⟩
def dkwX6_wrongBy_2 : List UInt8 := [162, 0, 7, 4, 167, 0, 4, 3, 96, 62, 132, 5, 1, 167, 255, 212, 132, 4, 1, 167, 255, 194, 29, 172]
abbrev dktX6_wrongBy_2 : List UInt8 := dkwX6_wrongBy_2 ++ []
def dkwX6_wrongBy_1 : List UInt8 := [42, 27, 42, 180, 0, 22, 21, 4, 46, 182, 0, 61, 42, 27, 42, 180, 0, 22, 21, 5, 46, 182, 0, 61]
abbrev dktX6_wrongBy_1 : List UInt8 := dkwX6_wrongBy_1 ++ dktX6_wrongBy_2
def dkwX6_wrongBy_0 : List UInt8 := [3, 62, 3, 54, 4, 21, 4, 28, 162, 0, 62, 21, 4, 4, 96, 54, 5, 21, 5, 28, 162, 0, 44, 29]
abbrev dktX6_wrongBy_0 : List UInt8 := dkwX6_wrongBy_0 ++ dktX6_wrongBy_1
theorem dksX6_wrongBy_0 : cX6_wrongBy.data.toList.drop 0 = dktX6_wrongBy_0 := by decide +kernel
theorem dksX6_wrongBy_1 : cX6_wrongBy.data.toList.drop 24 = dktX6_wrongBy_1 := dk_seg dksX6_wrongBy_0 24 rfl rfl
theorem dksX6_wrongBy_2 : cX6_wrongBy.data.toList.drop 48 = dktX6_wrongBy_2 := dk_seg dksX6_wrongBy_1 24 rfl rfl
theorem dX6_wrongBy_0 : decode cX6_wrongBy 0 = .ok (.iconst 0, 1) := dk_3 (dk_at dksX6_wrongBy_0 0 rfl rfl)
theorem dX6_wrongBy_1 : decode cX6_wrongBy 1 = .ok (.istore_n 3, 1) := dk_62 (dk_at dksX6_wrongBy_0 1 rfl rfl)
theorem dX6_wrongBy_2 : decode cX6_wrongBy 2 = .ok (.iconst 0, 1) := dk_3 (dk_at dksX6_wrongBy_0 2 rfl rfl)
theorem dX6_wrongBy_3 : decode cX6_wrongBy 3 = .ok (.istore 4, 2) := dk_54 4 (dk_at dksX6_wrongBy_0 3 rfl rfl)
theorem dX6_wrongBy_5 : decode cX6_wrongBy 5 = .ok (.iload 4, 2) := dk_21 4 (dk_at dksX6_wrongBy_0 5 rfl rfl)
theorem dX6_wrongBy_7 : decode cX6_wrongBy 7 = .ok (.iload_n 2, 1) := dk_28 (dk_at dksX6_wrongBy_0 7 rfl rfl)
theorem dX6_wrongBy_8 : decode cX6_wrongBy 8 = .ok (.if_icmp .ge 62, 3) := dk_162 0 62 (dk_at dksX6_wrongBy_0 8 rfl rfl)
theorem dX6_wrongBy_11 : decode cX6_wrongBy 11 = .ok (.iload 4, 2) := dk_21 4 (dk_at dksX6_wrongBy_0 11 rfl rfl)
theorem dX6_wrongBy_13 : decode cX6_wrongBy 13 = .ok (.iconst 1, 1) := dk_4 (dk_at dksX6_wrongBy_0 13 rfl rfl)
theorem dX6_wrongBy_14 : decode cX6_wrongBy 14 = .ok (.iadd, 1) := dk_96 (dk_at dksX6_wrongBy_0 14 rfl rfl)
theorem dX6_wrongBy_15 : decode cX6_wrongBy 15 = .ok (.istore 5, 2) := dk_54 5 (dk_at dksX6_wrongBy_0 15 rfl rfl)
theorem dX6_wrongBy_17 : decode cX6_wrongBy 17 = .ok (.iload 5, 2) := dk_21 5 (dk_at dksX6_wrongBy_0 17 rfl rfl)
theorem dX6_wrongBy_19 : decode cX6_wrongBy 19 = .ok (.iload_n 2, 1) := dk_28 (dk_at dksX6_wrongBy_0 19 rfl rfl)
theorem dX6_wrongBy_20 : decode cX6_wrongBy 20 = .ok (.if_icmp .ge 44, 3) := dk_162 0 44 (dk_at dksX6_wrongBy_0 20 rfl rfl)
theorem dX6_wrongBy_23 : decode cX6_wrongBy 23 = .ok (.iload_n 3, 1) := dk_29 (dk_at dksX6_wrongBy_0 23 rfl rfl)
theorem dX6_wrongBy_24 : decode cX6_wrongBy 24 = .ok (.aload_n 0, 1) := dk_42 (dk_at dksX6_wrongBy_1 0 rfl rfl)
theorem dX6_wrongBy_25 : decode cX6_wrongBy 25 = .ok (.iload_n 1, 1) := dk_27 (dk_at dksX6_wrongBy_1 1 rfl rfl)
theorem dX6_wrongBy_26 : decode cX6_wrongBy 26 = .ok (.aload_n 0, 1) := dk_42 (dk_at dksX6_wrongBy_1 2 rfl rfl)
theorem dX6_wrongBy_27 : decode cX6_wrongBy 27 = .ok (.getfield 22, 3) := dk_180 0 22 (dk_at dksX6_wrongBy_1 3 rfl rfl)
theorem dX6_wrongBy_30 : decode cX6_wrongBy 30 = .ok (.iload 4, 2) := dk_21 4 (dk_at dksX6_wrongBy_1 6 rfl rfl)
theorem dX6_wrongBy_32 : decode cX6_wrongBy 32 = .ok (.iaload, 1) := dk_46 (dk_at dksX6_wrongBy_1 8 rfl rfl)
theorem dX6_wrongBy_33 : decode cX6_wrongBy 33 = .ok (.invokevirtual 61, 3) := dk_182 0 61 (dk_at dksX6_wrongBy_1 9 rfl rfl)
theorem dX6_wrongBy_36 : decode cX6_wrongBy 36 = .ok (.aload_n 0, 1) := dk_42 (dk_at dksX6_wrongBy_1 12 rfl rfl)
theorem dX6_wrongBy_37 : decode cX6_wrongBy 37 = .ok (.iload_n 1, 1) := dk_27 (dk_at dksX6_wrongBy_1 13 rfl rfl)
theorem dX6_wrongBy_38 : decode cX6_wrongBy 38 = .ok (.aload_n 0, 1) := dk_42 (dk_at dksX6_wrongBy_1 14 rfl rfl)
theorem dX6_wrongBy_39 : decode cX6_wrongBy 39 = .ok (.getfield 22, 3) := dk_180 0 22 (dk_at dksX6_wrongBy_1 15 rfl rfl)
theorem dX6_wrongBy_42 : decode cX6_wrongBy 42 = .ok (.iload 5, 2) := dk_21 5 (dk_at dksX6_wrongBy_1 18 rfl rfl)
theorem dX6_wrongBy_44 : decode cX6_wrongBy 44 = .ok (.iaload, 1) := dk_46 (dk_at dksX6_wrongBy_1 20 rfl rfl)
theorem dX6_wrongBy_45 : decode cX6_wrongBy 45 = .ok (.invokevirtual 61, 3) := dk_182 0 61 (dk_at dksX6_wrongBy_1 21 rfl rfl)
theorem dX6_wrongBy_48 : decode cX6_wrongBy 48 = .ok (.if_icmp .ge 7, 3) := dk_162 0 7 (dk_at dksX6_wrongBy_2 0 rfl rfl)
theorem dX6_wrongBy_51 : decode cX6_wrongBy 51 = .ok (.iconst 1, 1) := dk_4 (dk_at dksX6_wrongBy_2 3 rfl rfl)
theorem dX6_wrongBy_52 : decode cX6_wrongBy 52 = .ok (.goto 4, 3) := dk_167 0 4 (dk_at dksX6_wrongBy_2 4 rfl rfl)
theorem dX6_wrongBy_55 : decode cX6_wrongBy 55 = .ok (.iconst 0, 1) := dk_3 (dk_at dksX6_wrongBy_2 7 rfl rfl)
theorem dX6_wrongBy_56 : decode cX6_wrongBy 56 = .ok (.iadd, 1) := dk_96 (dk_at dksX6_wrongBy_2 8 rfl rfl)
theorem dX6_wrongBy_57 : decode cX6_wrongBy 57 = .ok (.istore_n 3, 1) := dk_62 (dk_at dksX6_wrongBy_2 9 rfl rfl)
theorem dX6_wrongBy_58 : decode cX6_wrongBy 58 = .ok (.iinc 5 1, 3) := dk_132 5 1 (dk_at dksX6_wrongBy_2 10 rfl rfl)
theorem dX6_wrongBy_61 : decode cX6_wrongBy 61 = .ok (.goto (-44), 3) := dk_167 255 212 (dk_at dksX6_wrongBy_2 13 rfl rfl)
theorem dX6_wrongBy_64 : decode cX6_wrongBy 64 = .ok (.iinc 4 1, 3) := dk_132 4 1 (dk_at dksX6_wrongBy_2 16 rfl rfl)
theorem dX6_wrongBy_67 : decode cX6_wrongBy 67 = .ok (.goto (-62), 3) := dk_167 255 194 (dk_at dksX6_wrongBy_2 19 rfl rfl)
theorem dX6_wrongBy_70 : decode cX6_wrongBy 70 = .ok (.iload_n 3, 1) := dk_29 (dk_at dksX6_wrongBy_2 22 rfl rfl)
theorem dX6_wrongBy_71 : decode cX6_wrongBy 71 = .ok (.ireturn, 1) := dk_172 (dk_at dksX6_wrongBy_2 23 rfl rfl)
abbrev cX6_dry : ByteArray := prog_19_method_112_code
def yX6_dry : MethodName := ⟨RX6, "dry", "()I"⟩
def dkwX6_dry_5 : List UInt8 := [167, 255, 210, 29, 153, 0, 5, 28, 60, 132, 2, 1, 167, 255, 166, 27, 172]
abbrev dktX6_dry_5 : List UInt8 := dkwX6_dry_5 ++ []
def dkwX6_dry_4 : List UInt8 := [153, 0, 15, 42, 180, 0, 41, 21, 4, 46, 28, 126, 153, 0, 7, 4, 167, 0, 4, 3, 62, 132, 4, 1]
abbrev dktX6_dry_4 : List UInt8 := dkwX6_dry_4 ++ dktX6_dry_5
def dkwX6_dry_3 : List UInt8 := [21, 4, 42, 180, 0, 7, 6, 46, 162, 0, 41, 29, 153, 0, 37, 42, 180, 0, 41, 21, 4, 46]
abbrev dktX6_dry_3 : List UInt8 := dkwX6_dry_3 ++ dktX6_dry_4
def dkwX6_dry_2 : List UInt8 := [159, 0, 14, 28, 184, 1, 47, 27, 184, 1, 47, 162, 0, 7, 4, 167, 0, 4, 3, 62, 3, 54, 4]
abbrev dktX6_dry_2 : List UInt8 := dkwX6_dry_2 ++ dktX6_dry_3
def dkwX6_dry_1 : List UInt8 := [182, 1, 150, 79, 132, 1, 1, 167, 255, 232, 2, 60, 3, 61, 28, 17, 1, 0, 162, 0, 89, 27, 2]
abbrev dktX6_dry_1 : List UInt8 := dkwX6_dry_1 ++ dktX6_dry_2
def dkwX6_dry_0 : List UInt8 := [42, 3, 181, 0, 54, 3, 60, 27, 42, 180, 0, 7, 6, 46, 162, 0, 20, 42, 180, 0, 41, 27, 42, 27]
abbrev dktX6_dry_0 : List UInt8 := dkwX6_dry_0 ++ dktX6_dry_1
theorem dksX6_dry_0 : cX6_dry.data.toList.drop 0 = dktX6_dry_0 := by decide +kernel
theorem dksX6_dry_1 : cX6_dry.data.toList.drop 24 = dktX6_dry_1 := dk_seg dksX6_dry_0 24 rfl rfl
theorem dksX6_dry_2 : cX6_dry.data.toList.drop 47 = dktX6_dry_2 := dk_seg dksX6_dry_1 23 rfl rfl
theorem dksX6_dry_3 : cX6_dry.data.toList.drop 70 = dktX6_dry_3 := dk_seg dksX6_dry_2 23 rfl rfl
theorem dksX6_dry_4 : cX6_dry.data.toList.drop 92 = dktX6_dry_4 := dk_seg dksX6_dry_3 22 rfl rfl
theorem dksX6_dry_5 : cX6_dry.data.toList.drop 116 = dktX6_dry_5 := dk_seg dksX6_dry_4 24 rfl rfl
theorem dX6_dry_0 : decode cX6_dry 0 = .ok (.aload_n 0, 1) := dk_42 (dk_at dksX6_dry_0 0 rfl rfl)
theorem dX6_dry_1 : decode cX6_dry 1 = .ok (.iconst 0, 1) := dk_3 (dk_at dksX6_dry_0 1 rfl rfl)
theorem dX6_dry_2 : decode cX6_dry 2 = .ok (.putfield 54, 3) := dk_181 0 54 (dk_at dksX6_dry_0 2 rfl rfl)
theorem dX6_dry_5 : decode cX6_dry 5 = .ok (.iconst 0, 1) := dk_3 (dk_at dksX6_dry_0 5 rfl rfl)
theorem dX6_dry_6 : decode cX6_dry 6 = .ok (.istore_n 1, 1) := dk_60 (dk_at dksX6_dry_0 6 rfl rfl)
theorem dX6_dry_7 : decode cX6_dry 7 = .ok (.iload_n 1, 1) := dk_27 (dk_at dksX6_dry_0 7 rfl rfl)
theorem dX6_dry_8 : decode cX6_dry 8 = .ok (.aload_n 0, 1) := dk_42 (dk_at dksX6_dry_0 8 rfl rfl)
theorem dX6_dry_9 : decode cX6_dry 9 = .ok (.getfield 7, 3) := dk_180 0 7 (dk_at dksX6_dry_0 9 rfl rfl)
theorem dX6_dry_12 : decode cX6_dry 12 = .ok (.iconst 3, 1) := dk_6 (dk_at dksX6_dry_0 12 rfl rfl)
theorem dX6_dry_13 : decode cX6_dry 13 = .ok (.iaload, 1) := dk_46 (dk_at dksX6_dry_0 13 rfl rfl)
theorem dX6_dry_14 : decode cX6_dry 14 = .ok (.if_icmp .ge 20, 3) := dk_162 0 20 (dk_at dksX6_dry_0 14 rfl rfl)
theorem dX6_dry_17 : decode cX6_dry 17 = .ok (.aload_n 0, 1) := dk_42 (dk_at dksX6_dry_0 17 rfl rfl)
theorem dX6_dry_18 : decode cX6_dry 18 = .ok (.getfield 41, 3) := dk_180 0 41 (dk_at dksX6_dry_0 18 rfl rfl)
theorem dX6_dry_21 : decode cX6_dry 21 = .ok (.iload_n 1, 1) := dk_27 (dk_at dksX6_dry_0 21 rfl rfl)
theorem dX6_dry_22 : decode cX6_dry 22 = .ok (.aload_n 0, 1) := dk_42 (dk_at dksX6_dry_0 22 rfl rfl)
theorem dX6_dry_23 : decode cX6_dry 23 = .ok (.iload_n 1, 1) := dk_27 (dk_at dksX6_dry_0 23 rfl rfl)
theorem dX6_dry_24 : decode cX6_dry 24 = .ok (.invokevirtual 406, 3) := dk_182 1 150 (dk_at dksX6_dry_1 0 rfl rfl)
theorem dX6_dry_27 : decode cX6_dry 27 = .ok (.iastore, 1) := dk_79 (dk_at dksX6_dry_1 3 rfl rfl)
theorem dX6_dry_28 : decode cX6_dry 28 = .ok (.iinc 1 1, 3) := dk_132 1 1 (dk_at dksX6_dry_1 4 rfl rfl)
theorem dX6_dry_31 : decode cX6_dry 31 = .ok (.goto (-24), 3) := dk_167 255 232 (dk_at dksX6_dry_1 7 rfl rfl)
theorem dX6_dry_34 : decode cX6_dry 34 = .ok (.iconst (-1), 1) := dk_2 (dk_at dksX6_dry_1 10 rfl rfl)
theorem dX6_dry_35 : decode cX6_dry 35 = .ok (.istore_n 1, 1) := dk_60 (dk_at dksX6_dry_1 11 rfl rfl)
theorem dX6_dry_36 : decode cX6_dry 36 = .ok (.iconst 0, 1) := dk_3 (dk_at dksX6_dry_1 12 rfl rfl)
theorem dX6_dry_37 : decode cX6_dry 37 = .ok (.istore_n 2, 1) := dk_61 (dk_at dksX6_dry_1 13 rfl rfl)
theorem dX6_dry_38 : decode cX6_dry 38 = .ok (.iload_n 2, 1) := dk_28 (dk_at dksX6_dry_1 14 rfl rfl)
theorem dX6_dry_39 : decode cX6_dry 39 = .ok (.sipush 256, 3) := dk_17 1 0 (dk_at dksX6_dry_1 15 rfl rfl)
theorem dX6_dry_42 : decode cX6_dry 42 = .ok (.if_icmp .ge 89, 3) := dk_162 0 89 (dk_at dksX6_dry_1 18 rfl rfl)
theorem dX6_dry_45 : decode cX6_dry 45 = .ok (.iload_n 1, 1) := dk_27 (dk_at dksX6_dry_1 21 rfl rfl)
theorem dX6_dry_46 : decode cX6_dry 46 = .ok (.iconst (-1), 1) := dk_2 (dk_at dksX6_dry_1 22 rfl rfl)
theorem dX6_dry_47 : decode cX6_dry 47 = .ok (.if_icmp .eq 14, 3) := dk_159 0 14 (dk_at dksX6_dry_2 0 rfl rfl)
theorem dX6_dry_50 : decode cX6_dry 50 = .ok (.iload_n 2, 1) := dk_28 (dk_at dksX6_dry_2 3 rfl rfl)
theorem dX6_dry_51 : decode cX6_dry 51 = .ok (.invokestatic 303, 3) := dk_184 1 47 (dk_at dksX6_dry_2 4 rfl rfl)
theorem dX6_dry_54 : decode cX6_dry 54 = .ok (.iload_n 1, 1) := dk_27 (dk_at dksX6_dry_2 7 rfl rfl)
theorem dX6_dry_55 : decode cX6_dry 55 = .ok (.invokestatic 303, 3) := dk_184 1 47 (dk_at dksX6_dry_2 8 rfl rfl)
theorem dX6_dry_58 : decode cX6_dry 58 = .ok (.if_icmp .ge 7, 3) := dk_162 0 7 (dk_at dksX6_dry_2 11 rfl rfl)
theorem dX6_dry_61 : decode cX6_dry 61 = .ok (.iconst 1, 1) := dk_4 (dk_at dksX6_dry_2 14 rfl rfl)
theorem dX6_dry_62 : decode cX6_dry 62 = .ok (.goto 4, 3) := dk_167 0 4 (dk_at dksX6_dry_2 15 rfl rfl)
theorem dX6_dry_65 : decode cX6_dry 65 = .ok (.iconst 0, 1) := dk_3 (dk_at dksX6_dry_2 18 rfl rfl)
theorem dX6_dry_66 : decode cX6_dry 66 = .ok (.istore_n 3, 1) := dk_62 (dk_at dksX6_dry_2 19 rfl rfl)
theorem dX6_dry_67 : decode cX6_dry 67 = .ok (.iconst 0, 1) := dk_3 (dk_at dksX6_dry_2 20 rfl rfl)
theorem dX6_dry_68 : decode cX6_dry 68 = .ok (.istore 4, 2) := dk_54 4 (dk_at dksX6_dry_2 21 rfl rfl)
theorem dX6_dry_70 : decode cX6_dry 70 = .ok (.iload 4, 2) := dk_21 4 (dk_at dksX6_dry_3 0 rfl rfl)
theorem dX6_dry_72 : decode cX6_dry 72 = .ok (.aload_n 0, 1) := dk_42 (dk_at dksX6_dry_3 2 rfl rfl)
theorem dX6_dry_73 : decode cX6_dry 73 = .ok (.getfield 7, 3) := dk_180 0 7 (dk_at dksX6_dry_3 3 rfl rfl)
theorem dX6_dry_76 : decode cX6_dry 76 = .ok (.iconst 3, 1) := dk_6 (dk_at dksX6_dry_3 6 rfl rfl)
theorem dX6_dry_77 : decode cX6_dry 77 = .ok (.iaload, 1) := dk_46 (dk_at dksX6_dry_3 7 rfl rfl)
theorem dX6_dry_78 : decode cX6_dry 78 = .ok (.if_icmp .ge 41, 3) := dk_162 0 41 (dk_at dksX6_dry_3 8 rfl rfl)
theorem dX6_dry_81 : decode cX6_dry 81 = .ok (.iload_n 3, 1) := dk_29 (dk_at dksX6_dry_3 11 rfl rfl)
theorem dX6_dry_82 : decode cX6_dry 82 = .ok (.ifCond .eq 37, 3) := dk_153 0 37 (dk_at dksX6_dry_3 12 rfl rfl)
theorem dX6_dry_85 : decode cX6_dry 85 = .ok (.aload_n 0, 1) := dk_42 (dk_at dksX6_dry_3 15 rfl rfl)
theorem dX6_dry_86 : decode cX6_dry 86 = .ok (.getfield 41, 3) := dk_180 0 41 (dk_at dksX6_dry_3 16 rfl rfl)
theorem dX6_dry_89 : decode cX6_dry 89 = .ok (.iload 4, 2) := dk_21 4 (dk_at dksX6_dry_3 19 rfl rfl)
theorem dX6_dry_91 : decode cX6_dry 91 = .ok (.iaload, 1) := dk_46 (dk_at dksX6_dry_3 21 rfl rfl)
theorem dX6_dry_92 : decode cX6_dry 92 = .ok (.ifCond .eq 15, 3) := dk_153 0 15 (dk_at dksX6_dry_4 0 rfl rfl)
theorem dX6_dry_95 : decode cX6_dry 95 = .ok (.aload_n 0, 1) := dk_42 (dk_at dksX6_dry_4 3 rfl rfl)
theorem dX6_dry_96 : decode cX6_dry 96 = .ok (.getfield 41, 3) := dk_180 0 41 (dk_at dksX6_dry_4 4 rfl rfl)
theorem dX6_dry_99 : decode cX6_dry 99 = .ok (.iload 4, 2) := dk_21 4 (dk_at dksX6_dry_4 7 rfl rfl)
theorem dX6_dry_101 : decode cX6_dry 101 = .ok (.iaload, 1) := dk_46 (dk_at dksX6_dry_4 9 rfl rfl)
theorem dX6_dry_102 : decode cX6_dry 102 = .ok (.iload_n 2, 1) := dk_28 (dk_at dksX6_dry_4 10 rfl rfl)
theorem dX6_dry_103 : decode cX6_dry 103 = .ok (.iand, 1) := dk_126 (dk_at dksX6_dry_4 11 rfl rfl)
theorem dX6_dry_104 : decode cX6_dry 104 = .ok (.ifCond .eq 7, 3) := dk_153 0 7 (dk_at dksX6_dry_4 12 rfl rfl)
theorem dX6_dry_107 : decode cX6_dry 107 = .ok (.iconst 1, 1) := dk_4 (dk_at dksX6_dry_4 15 rfl rfl)
theorem dX6_dry_108 : decode cX6_dry 108 = .ok (.goto 4, 3) := dk_167 0 4 (dk_at dksX6_dry_4 16 rfl rfl)
theorem dX6_dry_111 : decode cX6_dry 111 = .ok (.iconst 0, 1) := dk_3 (dk_at dksX6_dry_4 19 rfl rfl)
theorem dX6_dry_112 : decode cX6_dry 112 = .ok (.istore_n 3, 1) := dk_62 (dk_at dksX6_dry_4 20 rfl rfl)
theorem dX6_dry_113 : decode cX6_dry 113 = .ok (.iinc 4 1, 3) := dk_132 4 1 (dk_at dksX6_dry_4 21 rfl rfl)
theorem dX6_dry_116 : decode cX6_dry 116 = .ok (.goto (-46), 3) := dk_167 255 210 (dk_at dksX6_dry_5 0 rfl rfl)
theorem dX6_dry_119 : decode cX6_dry 119 = .ok (.iload_n 3, 1) := dk_29 (dk_at dksX6_dry_5 3 rfl rfl)
theorem dX6_dry_120 : decode cX6_dry 120 = .ok (.ifCond .eq 5, 3) := dk_153 0 5 (dk_at dksX6_dry_5 4 rfl rfl)
theorem dX6_dry_123 : decode cX6_dry 123 = .ok (.iload_n 2, 1) := dk_28 (dk_at dksX6_dry_5 7 rfl rfl)
theorem dX6_dry_124 : decode cX6_dry 124 = .ok (.istore_n 1, 1) := dk_60 (dk_at dksX6_dry_5 8 rfl rfl)
theorem dX6_dry_125 : decode cX6_dry 125 = .ok (.iinc 2 1, 3) := dk_132 2 1 (dk_at dksX6_dry_5 9 rfl rfl)
theorem dX6_dry_128 : decode cX6_dry 128 = .ok (.goto (-90), 3) := dk_167 255 166 (dk_at dksX6_dry_5 12 rfl rfl)
theorem dX6_dry_131 : decode cX6_dry 131 = .ok (.iload_n 1, 1) := dk_27 (dk_at dksX6_dry_5 15 rfl rfl)
theorem dX6_dry_132 : decode cX6_dry 132 = .ok (.ireturn, 1) := dk_172 (dk_at dksX6_dry_5 16 rfl rfl)
abbrev cX6_meetsIn : ByteArray := prog_19_method_111_code
def yX6_meetsIn : MethodName := ⟨RX6, "meetsIn", "(I)I"⟩
def dkwX6_meetsIn_1 : List UInt8 := [167, 0, 4, 3, 128, 61, 132, 3, 1, 167, 255, 228, 28, 172]
abbrev dktX6_meetsIn_1 : List UInt8 := dkwX6_meetsIn_1 ++ []
def dkwX6_meetsIn_0 : List UInt8 := [3, 61, 3, 62, 29, 16, 8, 162, 0, 28, 28, 42, 27, 29, 182, 1, 31, 153, 0, 9, 4, 29, 120]
abbrev dktX6_meetsIn_0 : List UInt8 := dkwX6_meetsIn_0 ++ dktX6_meetsIn_1
theorem dksX6_meetsIn_0 : cX6_meetsIn.data.toList.drop 0 = dktX6_meetsIn_0 := by decide +kernel
theorem dksX6_meetsIn_1 : cX6_meetsIn.data.toList.drop 23 = dktX6_meetsIn_1 := dk_seg dksX6_meetsIn_0 23 rfl rfl
theorem dX6_meetsIn_0 : decode cX6_meetsIn 0 = .ok (.iconst 0, 1) := dk_3 (dk_at dksX6_meetsIn_0 0 rfl rfl)
theorem dX6_meetsIn_1 : decode cX6_meetsIn 1 = .ok (.istore_n 2, 1) := dk_61 (dk_at dksX6_meetsIn_0 1 rfl rfl)
theorem dX6_meetsIn_2 : decode cX6_meetsIn 2 = .ok (.iconst 0, 1) := dk_3 (dk_at dksX6_meetsIn_0 2 rfl rfl)
theorem dX6_meetsIn_3 : decode cX6_meetsIn 3 = .ok (.istore_n 3, 1) := dk_62 (dk_at dksX6_meetsIn_0 3 rfl rfl)
theorem dX6_meetsIn_4 : decode cX6_meetsIn 4 = .ok (.iload_n 3, 1) := dk_29 (dk_at dksX6_meetsIn_0 4 rfl rfl)
theorem dX6_meetsIn_5 : decode cX6_meetsIn 5 = .ok (.bipush 8, 2) := dk_16 8 (dk_at dksX6_meetsIn_0 5 rfl rfl)
theorem dX6_meetsIn_7 : decode cX6_meetsIn 7 = .ok (.if_icmp .ge 28, 3) := dk_162 0 28 (dk_at dksX6_meetsIn_0 7 rfl rfl)
theorem dX6_meetsIn_10 : decode cX6_meetsIn 10 = .ok (.iload_n 2, 1) := dk_28 (dk_at dksX6_meetsIn_0 10 rfl rfl)
theorem dX6_meetsIn_11 : decode cX6_meetsIn 11 = .ok (.aload_n 0, 1) := dk_42 (dk_at dksX6_meetsIn_0 11 rfl rfl)
theorem dX6_meetsIn_12 : decode cX6_meetsIn 12 = .ok (.iload_n 1, 1) := dk_27 (dk_at dksX6_meetsIn_0 12 rfl rfl)
theorem dX6_meetsIn_13 : decode cX6_meetsIn 13 = .ok (.iload_n 3, 1) := dk_29 (dk_at dksX6_meetsIn_0 13 rfl rfl)
theorem dX6_meetsIn_14 : decode cX6_meetsIn 14 = .ok (.invokevirtual 287, 3) := dk_182 1 31 (dk_at dksX6_meetsIn_0 14 rfl rfl)
theorem dX6_meetsIn_17 : decode cX6_meetsIn 17 = .ok (.ifCond .eq 9, 3) := dk_153 0 9 (dk_at dksX6_meetsIn_0 17 rfl rfl)
theorem dX6_meetsIn_20 : decode cX6_meetsIn 20 = .ok (.iconst 1, 1) := dk_4 (dk_at dksX6_meetsIn_0 20 rfl rfl)
theorem dX6_meetsIn_21 : decode cX6_meetsIn 21 = .ok (.iload_n 3, 1) := dk_29 (dk_at dksX6_meetsIn_0 21 rfl rfl)
theorem dX6_meetsIn_22 : decode cX6_meetsIn 22 = .ok (.ishl, 1) := dk_120 (dk_at dksX6_meetsIn_0 22 rfl rfl)
theorem dX6_meetsIn_23 : decode cX6_meetsIn 23 = .ok (.goto 4, 3) := dk_167 0 4 (dk_at dksX6_meetsIn_1 0 rfl rfl)
theorem dX6_meetsIn_26 : decode cX6_meetsIn 26 = .ok (.iconst 0, 1) := dk_3 (dk_at dksX6_meetsIn_1 3 rfl rfl)
theorem dX6_meetsIn_27 : decode cX6_meetsIn 27 = .ok (.ior, 1) := dk_128 (dk_at dksX6_meetsIn_1 4 rfl rfl)
theorem dX6_meetsIn_28 : decode cX6_meetsIn 28 = .ok (.istore_n 2, 1) := dk_61 (dk_at dksX6_meetsIn_1 5 rfl rfl)
theorem dX6_meetsIn_29 : decode cX6_meetsIn 29 = .ok (.iinc 3 1, 3) := dk_132 3 1 (dk_at dksX6_meetsIn_1 6 rfl rfl)
theorem dX6_meetsIn_32 : decode cX6_meetsIn 32 = .ok (.goto (-28), 3) := dk_167 255 228 (dk_at dksX6_meetsIn_1 9 rfl rfl)
theorem dX6_meetsIn_35 : decode cX6_meetsIn 35 = .ok (.iload_n 2, 1) := dk_28 (dk_at dksX6_meetsIn_1 12 rfl rfl)
theorem dX6_meetsIn_36 : decode cX6_meetsIn 36 = .ok (.ireturn, 1) := dk_172 (dk_at dksX6_meetsIn_1 13 rfl rfl)
abbrev cX6_saved : ByteArray := prog_19_method_113_code
def yX6_saved : MethodName := ⟨RX6, "saved", "(II)I"⟩
def dkwX6_saved_11 : List UInt8 := [184, 1, 21, 54, 5, 132, 6, 1, 167, 255, 231, 21, 5, 172]
abbrev dktX6_saved_11 : List UInt8 := dkwX6_saved_11 ++ []
def dkwX6_saved_10 : List UInt8 := [54, 5, 3, 54, 6, 21, 6, 17, 1, 0, 162, 0, 23, 21, 5, 42, 180, 0, 41, 21, 6, 46]
abbrev dktX6_saved_10 : List UInt8 := dkwX6_saved_10 ++ dktX6_saved_11
def dkwX6_saved_9 : List UInt8 := [184, 1, 21, 79, 132, 9, 1, 167, 255, 182, 132, 8, 255, 167, 255, 168, 132, 5, 1, 167, 255, 108, 3]
abbrev dktX6_saved_9 : List UInt8 := dkwX6_saved_9 ++ dktX6_saved_10
def dkwX6_saved_8 : List UInt8 := [180, 0, 41, 21, 8, 46, 42, 180, 0, 41, 21, 8, 4, 21, 9, 120, 2, 130, 126, 46, 4, 96]
abbrev dktX6_saved_8 : List UInt8 := dkwX6_saved_8 ++ dktX6_saved_9
def dkwX6_saved_7 : List UInt8 := [180, 0, 41, 21, 8, 4, 21, 9, 120, 2, 130, 126, 46, 2, 159, 0, 36, 42, 180, 0, 41, 21, 8, 42]
abbrev dktX6_saved_7 : List UInt8 := dkwX6_saved_7 ++ dktX6_saved_8
def dkwX6_saved_6 : List UInt8 := [54, 9, 21, 9, 16, 8, 162, 0, 73, 21, 8, 21, 7, 126, 21, 9, 184, 0, 74, 153, 0, 54, 42]
abbrev dktX6_saved_6 : List UInt8 := dkwX6_saved_6 ++ dktX6_saved_7
def dkwX6_saved_5 : List UInt8 := [126, 42, 21, 6, 182, 1, 69, 2, 130, 126, 54, 7, 17, 0, 255, 54, 8, 21, 8, 155, 0, 89, 3]
abbrev dktX6_saved_5 : List UInt8 := dkwX6_saved_5 ++ dktX6_saved_6
def dkwX6_saved_4 : List UInt8 := [154, 0, 6, 167, 0, 129, 42, 27, 21, 5, 182, 1, 15, 54, 6, 21, 4, 42, 21, 6, 4, 182, 0, 71]
abbrev dktX6_saved_4 : List UInt8 := dkwX6_saved_4 ++ dktX6_saved_5
def dkwX6_saved_3 : List UInt8 := [79, 132, 5, 1, 167, 255, 228, 3, 54, 5, 21, 5, 16, 8, 162, 0, 147, 29, 21, 5, 184, 0, 74]
abbrev dktX6_saved_3 : List UInt8 := dkwX6_saved_3 ++ dktX6_saved_4
def dkwX6_saved_2 : List UInt8 := [21, 5, 17, 1, 0, 162, 0, 26, 42, 180, 0, 41, 21, 5, 21, 5, 154, 0, 7, 3, 167, 0, 4, 2]
abbrev dktX6_saved_2 : List UInt8 := dkwX6_saved_2 ++ dktX6_saved_3
def dkwX6_saved_1 : List UInt8 := [3, 172, 42, 27, 182, 1, 150, 28, 126, 62, 42, 27, 182, 1, 57, 28, 2, 130, 126, 54, 4, 3, 54, 5]
abbrev dktX6_saved_1 : List UInt8 := dkwX6_saved_1 ++ dktX6_saved_2
def dkwX6_saved_0 : List UInt8 := [42, 42, 27, 182, 1, 54, 154, 0, 7, 4, 167, 0, 4, 3, 181, 0, 54, 42, 180, 0, 54, 158, 0, 5]
abbrev dktX6_saved_0 : List UInt8 := dkwX6_saved_0 ++ dktX6_saved_1
theorem dksX6_saved_0 : cX6_saved.data.toList.drop 0 = dktX6_saved_0 := by decide +kernel
theorem dksX6_saved_1 : cX6_saved.data.toList.drop 24 = dktX6_saved_1 := dk_seg dksX6_saved_0 24 rfl rfl
theorem dksX6_saved_2 : cX6_saved.data.toList.drop 48 = dktX6_saved_2 := dk_seg dksX6_saved_1 24 rfl rfl
theorem dksX6_saved_3 : cX6_saved.data.toList.drop 72 = dktX6_saved_3 := dk_seg dksX6_saved_2 24 rfl rfl
theorem dksX6_saved_4 : cX6_saved.data.toList.drop 95 = dktX6_saved_4 := dk_seg dksX6_saved_3 23 rfl rfl
theorem dksX6_saved_5 : cX6_saved.data.toList.drop 119 = dktX6_saved_5 := dk_seg dksX6_saved_4 24 rfl rfl
theorem dksX6_saved_6 : cX6_saved.data.toList.drop 142 = dktX6_saved_6 := dk_seg dksX6_saved_5 23 rfl rfl
theorem dksX6_saved_7 : cX6_saved.data.toList.drop 165 = dktX6_saved_7 := dk_seg dksX6_saved_6 23 rfl rfl
theorem dksX6_saved_8 : cX6_saved.data.toList.drop 189 = dktX6_saved_8 := dk_seg dksX6_saved_7 24 rfl rfl
theorem dksX6_saved_9 : cX6_saved.data.toList.drop 211 = dktX6_saved_9 := dk_seg dksX6_saved_8 22 rfl rfl
theorem dksX6_saved_10 : cX6_saved.data.toList.drop 234 = dktX6_saved_10 := dk_seg dksX6_saved_9 23 rfl rfl
theorem dksX6_saved_11 : cX6_saved.data.toList.drop 256 = dktX6_saved_11 := dk_seg dksX6_saved_10 22 rfl rfl
theorem dX6_saved_0 : decode cX6_saved 0 = .ok (.aload_n 0, 1) := dk_42 (dk_at dksX6_saved_0 0 rfl rfl)
theorem dX6_saved_1 : decode cX6_saved 1 = .ok (.aload_n 0, 1) := dk_42 (dk_at dksX6_saved_0 1 rfl rfl)
theorem dX6_saved_2 : decode cX6_saved 2 = .ok (.iload_n 1, 1) := dk_27 (dk_at dksX6_saved_0 2 rfl rfl)
theorem dX6_saved_3 : decode cX6_saved 3 = .ok (.invokevirtual 310, 3) := dk_182 1 54 (dk_at dksX6_saved_0 3 rfl rfl)
theorem dX6_saved_6 : decode cX6_saved 6 = .ok (.ifCond .ne 7, 3) := dk_154 0 7 (dk_at dksX6_saved_0 6 rfl rfl)
theorem dX6_saved_9 : decode cX6_saved 9 = .ok (.iconst 1, 1) := dk_4 (dk_at dksX6_saved_0 9 rfl rfl)
theorem dX6_saved_10 : decode cX6_saved 10 = .ok (.goto 4, 3) := dk_167 0 4 (dk_at dksX6_saved_0 10 rfl rfl)
theorem dX6_saved_13 : decode cX6_saved 13 = .ok (.iconst 0, 1) := dk_3 (dk_at dksX6_saved_0 13 rfl rfl)
theorem dX6_saved_14 : decode cX6_saved 14 = .ok (.putfield 54, 3) := dk_181 0 54 (dk_at dksX6_saved_0 14 rfl rfl)
theorem dX6_saved_17 : decode cX6_saved 17 = .ok (.aload_n 0, 1) := dk_42 (dk_at dksX6_saved_0 17 rfl rfl)
theorem dX6_saved_18 : decode cX6_saved 18 = .ok (.getfield 54, 3) := dk_180 0 54 (dk_at dksX6_saved_0 18 rfl rfl)
theorem dX6_saved_21 : decode cX6_saved 21 = .ok (.ifCond .le 5, 3) := dk_158 0 5 (dk_at dksX6_saved_0 21 rfl rfl)
theorem dX6_saved_24 : decode cX6_saved 24 = .ok (.iconst 0, 1) := dk_3 (dk_at dksX6_saved_1 0 rfl rfl)
theorem dX6_saved_25 : decode cX6_saved 25 = .ok (.ireturn, 1) := dk_172 (dk_at dksX6_saved_1 1 rfl rfl)
theorem dX6_saved_26 : decode cX6_saved 26 = .ok (.aload_n 0, 1) := dk_42 (dk_at dksX6_saved_1 2 rfl rfl)
theorem dX6_saved_27 : decode cX6_saved 27 = .ok (.iload_n 1, 1) := dk_27 (dk_at dksX6_saved_1 3 rfl rfl)
theorem dX6_saved_28 : decode cX6_saved 28 = .ok (.invokevirtual 406, 3) := dk_182 1 150 (dk_at dksX6_saved_1 4 rfl rfl)
theorem dX6_saved_31 : decode cX6_saved 31 = .ok (.iload_n 2, 1) := dk_28 (dk_at dksX6_saved_1 7 rfl rfl)
theorem dX6_saved_32 : decode cX6_saved 32 = .ok (.iand, 1) := dk_126 (dk_at dksX6_saved_1 8 rfl rfl)
theorem dX6_saved_33 : decode cX6_saved 33 = .ok (.istore_n 3, 1) := dk_62 (dk_at dksX6_saved_1 9 rfl rfl)
theorem dX6_saved_34 : decode cX6_saved 34 = .ok (.aload_n 0, 1) := dk_42 (dk_at dksX6_saved_1 10 rfl rfl)
theorem dX6_saved_35 : decode cX6_saved 35 = .ok (.iload_n 1, 1) := dk_27 (dk_at dksX6_saved_1 11 rfl rfl)
theorem dX6_saved_36 : decode cX6_saved 36 = .ok (.invokevirtual 313, 3) := dk_182 1 57 (dk_at dksX6_saved_1 12 rfl rfl)
theorem dX6_saved_39 : decode cX6_saved 39 = .ok (.iload_n 2, 1) := dk_28 (dk_at dksX6_saved_1 15 rfl rfl)
theorem dX6_saved_40 : decode cX6_saved 40 = .ok (.iconst (-1), 1) := dk_2 (dk_at dksX6_saved_1 16 rfl rfl)
theorem dX6_saved_41 : decode cX6_saved 41 = .ok (.ixor, 1) := dk_130 (dk_at dksX6_saved_1 17 rfl rfl)
theorem dX6_saved_42 : decode cX6_saved 42 = .ok (.iand, 1) := dk_126 (dk_at dksX6_saved_1 18 rfl rfl)
theorem dX6_saved_43 : decode cX6_saved 43 = .ok (.istore 4, 2) := dk_54 4 (dk_at dksX6_saved_1 19 rfl rfl)
theorem dX6_saved_45 : decode cX6_saved 45 = .ok (.iconst 0, 1) := dk_3 (dk_at dksX6_saved_1 21 rfl rfl)
theorem dX6_saved_46 : decode cX6_saved 46 = .ok (.istore 5, 2) := dk_54 5 (dk_at dksX6_saved_1 22 rfl rfl)
theorem dX6_saved_48 : decode cX6_saved 48 = .ok (.iload 5, 2) := dk_21 5 (dk_at dksX6_saved_2 0 rfl rfl)
theorem dX6_saved_50 : decode cX6_saved 50 = .ok (.sipush 256, 3) := dk_17 1 0 (dk_at dksX6_saved_2 2 rfl rfl)
theorem dX6_saved_53 : decode cX6_saved 53 = .ok (.if_icmp .ge 26, 3) := dk_162 0 26 (dk_at dksX6_saved_2 5 rfl rfl)
theorem dX6_saved_56 : decode cX6_saved 56 = .ok (.aload_n 0, 1) := dk_42 (dk_at dksX6_saved_2 8 rfl rfl)
theorem dX6_saved_57 : decode cX6_saved 57 = .ok (.getfield 41, 3) := dk_180 0 41 (dk_at dksX6_saved_2 9 rfl rfl)
theorem dX6_saved_60 : decode cX6_saved 60 = .ok (.iload 5, 2) := dk_21 5 (dk_at dksX6_saved_2 12 rfl rfl)
theorem dX6_saved_62 : decode cX6_saved 62 = .ok (.iload 5, 2) := dk_21 5 (dk_at dksX6_saved_2 14 rfl rfl)
theorem dX6_saved_64 : decode cX6_saved 64 = .ok (.ifCond .ne 7, 3) := dk_154 0 7 (dk_at dksX6_saved_2 16 rfl rfl)
theorem dX6_saved_67 : decode cX6_saved 67 = .ok (.iconst 0, 1) := dk_3 (dk_at dksX6_saved_2 19 rfl rfl)
theorem dX6_saved_68 : decode cX6_saved 68 = .ok (.goto 4, 3) := dk_167 0 4 (dk_at dksX6_saved_2 20 rfl rfl)
theorem dX6_saved_71 : decode cX6_saved 71 = .ok (.iconst (-1), 1) := dk_2 (dk_at dksX6_saved_2 23 rfl rfl)
theorem dX6_saved_72 : decode cX6_saved 72 = .ok (.iastore, 1) := dk_79 (dk_at dksX6_saved_3 0 rfl rfl)
theorem dX6_saved_73 : decode cX6_saved 73 = .ok (.iinc 5 1, 3) := dk_132 5 1 (dk_at dksX6_saved_3 1 rfl rfl)
theorem dX6_saved_76 : decode cX6_saved 76 = .ok (.goto (-28), 3) := dk_167 255 228 (dk_at dksX6_saved_3 4 rfl rfl)
theorem dX6_saved_79 : decode cX6_saved 79 = .ok (.iconst 0, 1) := dk_3 (dk_at dksX6_saved_3 7 rfl rfl)
theorem dX6_saved_80 : decode cX6_saved 80 = .ok (.istore 5, 2) := dk_54 5 (dk_at dksX6_saved_3 8 rfl rfl)
theorem dX6_saved_82 : decode cX6_saved 82 = .ok (.iload 5, 2) := dk_21 5 (dk_at dksX6_saved_3 10 rfl rfl)
theorem dX6_saved_84 : decode cX6_saved 84 = .ok (.bipush 8, 2) := dk_16 8 (dk_at dksX6_saved_3 12 rfl rfl)
theorem dX6_saved_86 : decode cX6_saved 86 = .ok (.if_icmp .ge 147, 3) := dk_162 0 147 (dk_at dksX6_saved_3 14 rfl rfl)
theorem dX6_saved_89 : decode cX6_saved 89 = .ok (.iload_n 3, 1) := dk_29 (dk_at dksX6_saved_3 17 rfl rfl)
theorem dX6_saved_90 : decode cX6_saved 90 = .ok (.iload 5, 2) := dk_21 5 (dk_at dksX6_saved_3 18 rfl rfl)
theorem dX6_saved_92 : decode cX6_saved 92 = .ok (.invokestatic 74, 3) := dk_184 0 74 (dk_at dksX6_saved_3 20 rfl rfl)
theorem dX6_saved_95 : decode cX6_saved 95 = .ok (.ifCond .ne 6, 3) := dk_154 0 6 (dk_at dksX6_saved_4 0 rfl rfl)
theorem dX6_saved_98 : decode cX6_saved 98 = .ok (.goto 129, 3) := dk_167 0 129 (dk_at dksX6_saved_4 3 rfl rfl)
theorem dX6_saved_101 : decode cX6_saved 101 = .ok (.aload_n 0, 1) := dk_42 (dk_at dksX6_saved_4 6 rfl rfl)
theorem dX6_saved_102 : decode cX6_saved 102 = .ok (.iload_n 1, 1) := dk_27 (dk_at dksX6_saved_4 7 rfl rfl)
theorem dX6_saved_103 : decode cX6_saved 103 = .ok (.iload 5, 2) := dk_21 5 (dk_at dksX6_saved_4 8 rfl rfl)
theorem dX6_saved_105 : decode cX6_saved 105 = .ok (.invokevirtual 271, 3) := dk_182 1 15 (dk_at dksX6_saved_4 10 rfl rfl)
theorem dX6_saved_108 : decode cX6_saved 108 = .ok (.istore 6, 2) := dk_54 6 (dk_at dksX6_saved_4 13 rfl rfl)
theorem dX6_saved_110 : decode cX6_saved 110 = .ok (.iload 4, 2) := dk_21 4 (dk_at dksX6_saved_4 15 rfl rfl)
theorem dX6_saved_112 : decode cX6_saved 112 = .ok (.aload_n 0, 1) := dk_42 (dk_at dksX6_saved_4 17 rfl rfl)
theorem dX6_saved_113 : decode cX6_saved 113 = .ok (.iload 6, 2) := dk_21 6 (dk_at dksX6_saved_4 18 rfl rfl)
theorem dX6_saved_115 : decode cX6_saved 115 = .ok (.iconst 1, 1) := dk_4 (dk_at dksX6_saved_4 20 rfl rfl)
theorem dX6_saved_116 : decode cX6_saved 116 = .ok (.invokevirtual 71, 3) := dk_182 0 71 (dk_at dksX6_saved_4 21 rfl rfl)
theorem dX6_saved_119 : decode cX6_saved 119 = .ok (.iand, 1) := dk_126 (dk_at dksX6_saved_5 0 rfl rfl)
theorem dX6_saved_120 : decode cX6_saved 120 = .ok (.aload_n 0, 1) := dk_42 (dk_at dksX6_saved_5 1 rfl rfl)
theorem dX6_saved_121 : decode cX6_saved 121 = .ok (.iload 6, 2) := dk_21 6 (dk_at dksX6_saved_5 2 rfl rfl)
theorem dX6_saved_123 : decode cX6_saved 123 = .ok (.invokevirtual 325, 3) := dk_182 1 69 (dk_at dksX6_saved_5 4 rfl rfl)
theorem dX6_saved_126 : decode cX6_saved 126 = .ok (.iconst (-1), 1) := dk_2 (dk_at dksX6_saved_5 7 rfl rfl)
theorem dX6_saved_127 : decode cX6_saved 127 = .ok (.ixor, 1) := dk_130 (dk_at dksX6_saved_5 8 rfl rfl)
theorem dX6_saved_128 : decode cX6_saved 128 = .ok (.iand, 1) := dk_126 (dk_at dksX6_saved_5 9 rfl rfl)
theorem dX6_saved_129 : decode cX6_saved 129 = .ok (.istore 7, 2) := dk_54 7 (dk_at dksX6_saved_5 10 rfl rfl)
theorem dX6_saved_131 : decode cX6_saved 131 = .ok (.sipush 255, 3) := dk_17 0 255 (dk_at dksX6_saved_5 12 rfl rfl)
theorem dX6_saved_134 : decode cX6_saved 134 = .ok (.istore 8, 2) := dk_54 8 (dk_at dksX6_saved_5 15 rfl rfl)
theorem dX6_saved_136 : decode cX6_saved 136 = .ok (.iload 8, 2) := dk_21 8 (dk_at dksX6_saved_5 17 rfl rfl)
theorem dX6_saved_138 : decode cX6_saved 138 = .ok (.ifCond .lt 89, 3) := dk_155 0 89 (dk_at dksX6_saved_5 19 rfl rfl)
theorem dX6_saved_141 : decode cX6_saved 141 = .ok (.iconst 0, 1) := dk_3 (dk_at dksX6_saved_5 22 rfl rfl)
theorem dX6_saved_142 : decode cX6_saved 142 = .ok (.istore 9, 2) := dk_54 9 (dk_at dksX6_saved_6 0 rfl rfl)
theorem dX6_saved_144 : decode cX6_saved 144 = .ok (.iload 9, 2) := dk_21 9 (dk_at dksX6_saved_6 2 rfl rfl)
theorem dX6_saved_146 : decode cX6_saved 146 = .ok (.bipush 8, 2) := dk_16 8 (dk_at dksX6_saved_6 4 rfl rfl)
theorem dX6_saved_148 : decode cX6_saved 148 = .ok (.if_icmp .ge 73, 3) := dk_162 0 73 (dk_at dksX6_saved_6 6 rfl rfl)
theorem dX6_saved_151 : decode cX6_saved 151 = .ok (.iload 8, 2) := dk_21 8 (dk_at dksX6_saved_6 9 rfl rfl)
theorem dX6_saved_153 : decode cX6_saved 153 = .ok (.iload 7, 2) := dk_21 7 (dk_at dksX6_saved_6 11 rfl rfl)
theorem dX6_saved_155 : decode cX6_saved 155 = .ok (.iand, 1) := dk_126 (dk_at dksX6_saved_6 13 rfl rfl)
theorem dX6_saved_156 : decode cX6_saved 156 = .ok (.iload 9, 2) := dk_21 9 (dk_at dksX6_saved_6 14 rfl rfl)
theorem dX6_saved_158 : decode cX6_saved 158 = .ok (.invokestatic 74, 3) := dk_184 0 74 (dk_at dksX6_saved_6 16 rfl rfl)
theorem dX6_saved_161 : decode cX6_saved 161 = .ok (.ifCond .eq 54, 3) := dk_153 0 54 (dk_at dksX6_saved_6 19 rfl rfl)
theorem dX6_saved_164 : decode cX6_saved 164 = .ok (.aload_n 0, 1) := dk_42 (dk_at dksX6_saved_6 22 rfl rfl)
theorem dX6_saved_165 : decode cX6_saved 165 = .ok (.getfield 41, 3) := dk_180 0 41 (dk_at dksX6_saved_7 0 rfl rfl)
theorem dX6_saved_168 : decode cX6_saved 168 = .ok (.iload 8, 2) := dk_21 8 (dk_at dksX6_saved_7 3 rfl rfl)
theorem dX6_saved_170 : decode cX6_saved 170 = .ok (.iconst 1, 1) := dk_4 (dk_at dksX6_saved_7 5 rfl rfl)
theorem dX6_saved_171 : decode cX6_saved 171 = .ok (.iload 9, 2) := dk_21 9 (dk_at dksX6_saved_7 6 rfl rfl)
theorem dX6_saved_173 : decode cX6_saved 173 = .ok (.ishl, 1) := dk_120 (dk_at dksX6_saved_7 8 rfl rfl)
theorem dX6_saved_174 : decode cX6_saved 174 = .ok (.iconst (-1), 1) := dk_2 (dk_at dksX6_saved_7 9 rfl rfl)
theorem dX6_saved_175 : decode cX6_saved 175 = .ok (.ixor, 1) := dk_130 (dk_at dksX6_saved_7 10 rfl rfl)
theorem dX6_saved_176 : decode cX6_saved 176 = .ok (.iand, 1) := dk_126 (dk_at dksX6_saved_7 11 rfl rfl)
theorem dX6_saved_177 : decode cX6_saved 177 = .ok (.iaload, 1) := dk_46 (dk_at dksX6_saved_7 12 rfl rfl)
theorem dX6_saved_178 : decode cX6_saved 178 = .ok (.iconst (-1), 1) := dk_2 (dk_at dksX6_saved_7 13 rfl rfl)
theorem dX6_saved_179 : decode cX6_saved 179 = .ok (.if_icmp .eq 36, 3) := dk_159 0 36 (dk_at dksX6_saved_7 14 rfl rfl)
theorem dX6_saved_182 : decode cX6_saved 182 = .ok (.aload_n 0, 1) := dk_42 (dk_at dksX6_saved_7 17 rfl rfl)
theorem dX6_saved_183 : decode cX6_saved 183 = .ok (.getfield 41, 3) := dk_180 0 41 (dk_at dksX6_saved_7 18 rfl rfl)
theorem dX6_saved_186 : decode cX6_saved 186 = .ok (.iload 8, 2) := dk_21 8 (dk_at dksX6_saved_7 21 rfl rfl)
theorem dX6_saved_188 : decode cX6_saved 188 = .ok (.aload_n 0, 1) := dk_42 (dk_at dksX6_saved_7 23 rfl rfl)
theorem dX6_saved_189 : decode cX6_saved 189 = .ok (.getfield 41, 3) := dk_180 0 41 (dk_at dksX6_saved_8 0 rfl rfl)
theorem dX6_saved_192 : decode cX6_saved 192 = .ok (.iload 8, 2) := dk_21 8 (dk_at dksX6_saved_8 3 rfl rfl)
theorem dX6_saved_194 : decode cX6_saved 194 = .ok (.iaload, 1) := dk_46 (dk_at dksX6_saved_8 5 rfl rfl)
theorem dX6_saved_195 : decode cX6_saved 195 = .ok (.aload_n 0, 1) := dk_42 (dk_at dksX6_saved_8 6 rfl rfl)
theorem dX6_saved_196 : decode cX6_saved 196 = .ok (.getfield 41, 3) := dk_180 0 41 (dk_at dksX6_saved_8 7 rfl rfl)
theorem dX6_saved_199 : decode cX6_saved 199 = .ok (.iload 8, 2) := dk_21 8 (dk_at dksX6_saved_8 10 rfl rfl)
theorem dX6_saved_201 : decode cX6_saved 201 = .ok (.iconst 1, 1) := dk_4 (dk_at dksX6_saved_8 12 rfl rfl)
theorem dX6_saved_202 : decode cX6_saved 202 = .ok (.iload 9, 2) := dk_21 9 (dk_at dksX6_saved_8 13 rfl rfl)
theorem dX6_saved_204 : decode cX6_saved 204 = .ok (.ishl, 1) := dk_120 (dk_at dksX6_saved_8 15 rfl rfl)
theorem dX6_saved_205 : decode cX6_saved 205 = .ok (.iconst (-1), 1) := dk_2 (dk_at dksX6_saved_8 16 rfl rfl)
theorem dX6_saved_206 : decode cX6_saved 206 = .ok (.ixor, 1) := dk_130 (dk_at dksX6_saved_8 17 rfl rfl)
theorem dX6_saved_207 : decode cX6_saved 207 = .ok (.iand, 1) := dk_126 (dk_at dksX6_saved_8 18 rfl rfl)
theorem dX6_saved_208 : decode cX6_saved 208 = .ok (.iaload, 1) := dk_46 (dk_at dksX6_saved_8 19 rfl rfl)
theorem dX6_saved_209 : decode cX6_saved 209 = .ok (.iconst 1, 1) := dk_4 (dk_at dksX6_saved_8 20 rfl rfl)
theorem dX6_saved_210 : decode cX6_saved 210 = .ok (.iadd, 1) := dk_96 (dk_at dksX6_saved_8 21 rfl rfl)
theorem dX6_saved_211 : decode cX6_saved 211 = .ok (.invokestatic 277, 3) := dk_184 1 21 (dk_at dksX6_saved_9 0 rfl rfl)
theorem dX6_saved_214 : decode cX6_saved 214 = .ok (.iastore, 1) := dk_79 (dk_at dksX6_saved_9 3 rfl rfl)
theorem dX6_saved_215 : decode cX6_saved 215 = .ok (.iinc 9 1, 3) := dk_132 9 1 (dk_at dksX6_saved_9 4 rfl rfl)
theorem dX6_saved_218 : decode cX6_saved 218 = .ok (.goto (-74), 3) := dk_167 255 182 (dk_at dksX6_saved_9 7 rfl rfl)
theorem dX6_saved_221 : decode cX6_saved 221 = .ok (.iinc 8 (-1), 3) := dk_132 8 255 (dk_at dksX6_saved_9 10 rfl rfl)
theorem dX6_saved_224 : decode cX6_saved 224 = .ok (.goto (-88), 3) := dk_167 255 168 (dk_at dksX6_saved_9 13 rfl rfl)
theorem dX6_saved_227 : decode cX6_saved 227 = .ok (.iinc 5 1, 3) := dk_132 5 1 (dk_at dksX6_saved_9 16 rfl rfl)
theorem dX6_saved_230 : decode cX6_saved 230 = .ok (.goto (-148), 3) := dk_167 255 108 (dk_at dksX6_saved_9 19 rfl rfl)
theorem dX6_saved_233 : decode cX6_saved 233 = .ok (.iconst 0, 1) := dk_3 (dk_at dksX6_saved_9 22 rfl rfl)
theorem dX6_saved_234 : decode cX6_saved 234 = .ok (.istore 5, 2) := dk_54 5 (dk_at dksX6_saved_10 0 rfl rfl)
theorem dX6_saved_236 : decode cX6_saved 236 = .ok (.iconst 0, 1) := dk_3 (dk_at dksX6_saved_10 2 rfl rfl)
theorem dX6_saved_237 : decode cX6_saved 237 = .ok (.istore 6, 2) := dk_54 6 (dk_at dksX6_saved_10 3 rfl rfl)
theorem dX6_saved_239 : decode cX6_saved 239 = .ok (.iload 6, 2) := dk_21 6 (dk_at dksX6_saved_10 5 rfl rfl)
theorem dX6_saved_241 : decode cX6_saved 241 = .ok (.sipush 256, 3) := dk_17 1 0 (dk_at dksX6_saved_10 7 rfl rfl)
theorem dX6_saved_244 : decode cX6_saved 244 = .ok (.if_icmp .ge 23, 3) := dk_162 0 23 (dk_at dksX6_saved_10 10 rfl rfl)
theorem dX6_saved_247 : decode cX6_saved 247 = .ok (.iload 5, 2) := dk_21 5 (dk_at dksX6_saved_10 13 rfl rfl)
theorem dX6_saved_249 : decode cX6_saved 249 = .ok (.aload_n 0, 1) := dk_42 (dk_at dksX6_saved_10 15 rfl rfl)
theorem dX6_saved_250 : decode cX6_saved 250 = .ok (.getfield 41, 3) := dk_180 0 41 (dk_at dksX6_saved_10 16 rfl rfl)
theorem dX6_saved_253 : decode cX6_saved 253 = .ok (.iload 6, 2) := dk_21 6 (dk_at dksX6_saved_10 19 rfl rfl)
theorem dX6_saved_255 : decode cX6_saved 255 = .ok (.iaload, 1) := dk_46 (dk_at dksX6_saved_10 21 rfl rfl)
theorem dX6_saved_256 : decode cX6_saved 256 = .ok (.invokestatic 277, 3) := dk_184 1 21 (dk_at dksX6_saved_11 0 rfl rfl)
theorem dX6_saved_259 : decode cX6_saved 259 = .ok (.istore 5, 2) := dk_54 5 (dk_at dksX6_saved_11 3 rfl rfl)
theorem dX6_saved_261 : decode cX6_saved 261 = .ok (.iinc 6 1, 3) := dk_132 6 1 (dk_at dksX6_saved_11 5 rfl rfl)
theorem dX6_saved_264 : decode cX6_saved 264 = .ok (.goto (-25), 3) := dk_167 255 231 (dk_at dksX6_saved_11 8 rfl rfl)
theorem dX6_saved_267 : decode cX6_saved 267 = .ok (.iload 5, 2) := dk_21 5 (dk_at dksX6_saved_11 11 rfl rfl)
theorem dX6_saved_269 : decode cX6_saved 269 = .ok (.ireturn, 1) := dk_172 (dk_at dksX6_saved_11 13 rfl rfl)
abbrev cX6_odds : ByteArray := prog_19_method_115_code
def yX6_odds : MethodName := ⟨RX6, "odds", "(II)I"⟩
def dkwX6_odds_4 : List UInt8 := [105, 97, 66, 132, 5, 1, 167, 255, 199, 20, 1, 157, 33, 105, 16, 100, 27, 184, 1, 153, 109, 136, 172]
abbrev dktX6_odds_4 : List UInt8 := dkwX6_odds_4 ++ []
def dkwX6_odds_3 : List UInt8 := [21, 5, 184, 1, 47, 184, 1, 153, 42, 180, 0, 7, 8, 46, 27, 21, 5, 184, 1, 47, 100, 184, 1, 153]
abbrev dktX6_odds_3 : List UInt8 := dkwX6_odds_3 ++ dktX6_odds_4
def dkwX6_odds_2 : List UInt8 := [27, 120, 162, 0, 55, 21, 5, 184, 1, 47, 28, 161, 0, 40, 33, 16, 100, 42, 180, 0, 7, 8, 46, 100]
abbrev dktX6_odds_2 : List UInt8 := dkwX6_odds_2 ++ dktX6_odds_3
def dkwX6_odds_1 : List UInt8 := [167, 0, 4, 3, 181, 0, 54, 42, 180, 0, 54, 158, 0, 5, 3, 172, 9, 66, 3, 54, 5, 21, 5, 4]
abbrev dktX6_odds_1 : List UInt8 := dkwX6_odds_1 ++ dktX6_odds_2
def dkwX6_odds_0 : List UInt8 := [42, 27, 3, 16, 7, 184, 0, 57, 153, 0, 13, 28, 3, 16, 8, 184, 0, 57, 154, 0, 7, 4]
abbrev dktX6_odds_0 : List UInt8 := dkwX6_odds_0 ++ dktX6_odds_1
theorem dksX6_odds_0 : cX6_odds.data.toList.drop 0 = dktX6_odds_0 := by decide +kernel
theorem dksX6_odds_1 : cX6_odds.data.toList.drop 22 = dktX6_odds_1 := dk_seg dksX6_odds_0 22 rfl rfl
theorem dksX6_odds_2 : cX6_odds.data.toList.drop 46 = dktX6_odds_2 := dk_seg dksX6_odds_1 24 rfl rfl
theorem dksX6_odds_3 : cX6_odds.data.toList.drop 70 = dktX6_odds_3 := dk_seg dksX6_odds_2 24 rfl rfl
theorem dksX6_odds_4 : cX6_odds.data.toList.drop 94 = dktX6_odds_4 := dk_seg dksX6_odds_3 24 rfl rfl
theorem dX6_odds_0 : decode cX6_odds 0 = .ok (.aload_n 0, 1) := dk_42 (dk_at dksX6_odds_0 0 rfl rfl)
theorem dX6_odds_1 : decode cX6_odds 1 = .ok (.iload_n 1, 1) := dk_27 (dk_at dksX6_odds_0 1 rfl rfl)
theorem dX6_odds_2 : decode cX6_odds 2 = .ok (.iconst 0, 1) := dk_3 (dk_at dksX6_odds_0 2 rfl rfl)
theorem dX6_odds_3 : decode cX6_odds 3 = .ok (.bipush 7, 2) := dk_16 7 (dk_at dksX6_odds_0 3 rfl rfl)
theorem dX6_odds_5 : decode cX6_odds 5 = .ok (.invokestatic 57, 3) := dk_184 0 57 (dk_at dksX6_odds_0 5 rfl rfl)
theorem dX6_odds_8 : decode cX6_odds 8 = .ok (.ifCond .eq 13, 3) := dk_153 0 13 (dk_at dksX6_odds_0 8 rfl rfl)
theorem dX6_odds_11 : decode cX6_odds 11 = .ok (.iload_n 2, 1) := dk_28 (dk_at dksX6_odds_0 11 rfl rfl)
theorem dX6_odds_12 : decode cX6_odds 12 = .ok (.iconst 0, 1) := dk_3 (dk_at dksX6_odds_0 12 rfl rfl)
theorem dX6_odds_13 : decode cX6_odds 13 = .ok (.bipush 8, 2) := dk_16 8 (dk_at dksX6_odds_0 13 rfl rfl)
theorem dX6_odds_15 : decode cX6_odds 15 = .ok (.invokestatic 57, 3) := dk_184 0 57 (dk_at dksX6_odds_0 15 rfl rfl)
theorem dX6_odds_18 : decode cX6_odds 18 = .ok (.ifCond .ne 7, 3) := dk_154 0 7 (dk_at dksX6_odds_0 18 rfl rfl)
theorem dX6_odds_21 : decode cX6_odds 21 = .ok (.iconst 1, 1) := dk_4 (dk_at dksX6_odds_0 21 rfl rfl)
theorem dX6_odds_22 : decode cX6_odds 22 = .ok (.goto 4, 3) := dk_167 0 4 (dk_at dksX6_odds_1 0 rfl rfl)
theorem dX6_odds_25 : decode cX6_odds 25 = .ok (.iconst 0, 1) := dk_3 (dk_at dksX6_odds_1 3 rfl rfl)
theorem dX6_odds_26 : decode cX6_odds 26 = .ok (.putfield 54, 3) := dk_181 0 54 (dk_at dksX6_odds_1 4 rfl rfl)
theorem dX6_odds_29 : decode cX6_odds 29 = .ok (.aload_n 0, 1) := dk_42 (dk_at dksX6_odds_1 7 rfl rfl)
theorem dX6_odds_30 : decode cX6_odds 30 = .ok (.getfield 54, 3) := dk_180 0 54 (dk_at dksX6_odds_1 8 rfl rfl)
theorem dX6_odds_33 : decode cX6_odds 33 = .ok (.ifCond .le 5, 3) := dk_158 0 5 (dk_at dksX6_odds_1 11 rfl rfl)
theorem dX6_odds_36 : decode cX6_odds 36 = .ok (.iconst 0, 1) := dk_3 (dk_at dksX6_odds_1 14 rfl rfl)
theorem dX6_odds_37 : decode cX6_odds 37 = .ok (.ireturn, 1) := dk_172 (dk_at dksX6_odds_1 15 rfl rfl)
theorem dX6_odds_38 : decode cX6_odds 38 = .ok (.lconst 0, 1) := dk_9 (dk_at dksX6_odds_1 16 rfl rfl)
theorem dX6_odds_39 : decode cX6_odds 39 = .ok (.lstore_n 3, 1) := dk_66 (dk_at dksX6_odds_1 17 rfl rfl)
theorem dX6_odds_40 : decode cX6_odds 40 = .ok (.iconst 0, 1) := dk_3 (dk_at dksX6_odds_1 18 rfl rfl)
theorem dX6_odds_41 : decode cX6_odds 41 = .ok (.istore 5, 2) := dk_54 5 (dk_at dksX6_odds_1 19 rfl rfl)
theorem dX6_odds_43 : decode cX6_odds 43 = .ok (.iload 5, 2) := dk_21 5 (dk_at dksX6_odds_1 21 rfl rfl)
theorem dX6_odds_45 : decode cX6_odds 45 = .ok (.iconst 1, 1) := dk_4 (dk_at dksX6_odds_1 23 rfl rfl)
theorem dX6_odds_46 : decode cX6_odds 46 = .ok (.iload_n 1, 1) := dk_27 (dk_at dksX6_odds_2 0 rfl rfl)
theorem dX6_odds_47 : decode cX6_odds 47 = .ok (.ishl, 1) := dk_120 (dk_at dksX6_odds_2 1 rfl rfl)
theorem dX6_odds_48 : decode cX6_odds 48 = .ok (.if_icmp .ge 55, 3) := dk_162 0 55 (dk_at dksX6_odds_2 2 rfl rfl)
theorem dX6_odds_51 : decode cX6_odds 51 = .ok (.iload 5, 2) := dk_21 5 (dk_at dksX6_odds_2 5 rfl rfl)
theorem dX6_odds_53 : decode cX6_odds 53 = .ok (.invokestatic 303, 3) := dk_184 1 47 (dk_at dksX6_odds_2 7 rfl rfl)
theorem dX6_odds_56 : decode cX6_odds 56 = .ok (.iload_n 2, 1) := dk_28 (dk_at dksX6_odds_2 10 rfl rfl)
theorem dX6_odds_57 : decode cX6_odds 57 = .ok (.if_icmp .lt 40, 3) := dk_161 0 40 (dk_at dksX6_odds_2 11 rfl rfl)
theorem dX6_odds_60 : decode cX6_odds 60 = .ok (.lload_n 3, 1) := dk_33 (dk_at dksX6_odds_2 14 rfl rfl)
theorem dX6_odds_61 : decode cX6_odds 61 = .ok (.bipush 100, 2) := dk_16 100 (dk_at dksX6_odds_2 15 rfl rfl)
theorem dX6_odds_63 : decode cX6_odds 63 = .ok (.aload_n 0, 1) := dk_42 (dk_at dksX6_odds_2 17 rfl rfl)
theorem dX6_odds_64 : decode cX6_odds 64 = .ok (.getfield 7, 3) := dk_180 0 7 (dk_at dksX6_odds_2 18 rfl rfl)
theorem dX6_odds_67 : decode cX6_odds 67 = .ok (.iconst 5, 1) := dk_8 (dk_at dksX6_odds_2 21 rfl rfl)
theorem dX6_odds_68 : decode cX6_odds 68 = .ok (.iaload, 1) := dk_46 (dk_at dksX6_odds_2 22 rfl rfl)
theorem dX6_odds_69 : decode cX6_odds 69 = .ok (.isub, 1) := dk_100 (dk_at dksX6_odds_2 23 rfl rfl)
theorem dX6_odds_70 : decode cX6_odds 70 = .ok (.iload 5, 2) := dk_21 5 (dk_at dksX6_odds_3 0 rfl rfl)
theorem dX6_odds_72 : decode cX6_odds 72 = .ok (.invokestatic 303, 3) := dk_184 1 47 (dk_at dksX6_odds_3 2 rfl rfl)
theorem dX6_odds_75 : decode cX6_odds 75 = .ok (.invokestatic 409, 3) := dk_184 1 153 (dk_at dksX6_odds_3 5 rfl rfl)
theorem dX6_odds_78 : decode cX6_odds 78 = .ok (.aload_n 0, 1) := dk_42 (dk_at dksX6_odds_3 8 rfl rfl)
theorem dX6_odds_79 : decode cX6_odds 79 = .ok (.getfield 7, 3) := dk_180 0 7 (dk_at dksX6_odds_3 9 rfl rfl)
theorem dX6_odds_82 : decode cX6_odds 82 = .ok (.iconst 5, 1) := dk_8 (dk_at dksX6_odds_3 12 rfl rfl)
theorem dX6_odds_83 : decode cX6_odds 83 = .ok (.iaload, 1) := dk_46 (dk_at dksX6_odds_3 13 rfl rfl)
theorem dX6_odds_84 : decode cX6_odds 84 = .ok (.iload_n 1, 1) := dk_27 (dk_at dksX6_odds_3 14 rfl rfl)
theorem dX6_odds_85 : decode cX6_odds 85 = .ok (.iload 5, 2) := dk_21 5 (dk_at dksX6_odds_3 15 rfl rfl)
theorem dX6_odds_87 : decode cX6_odds 87 = .ok (.invokestatic 303, 3) := dk_184 1 47 (dk_at dksX6_odds_3 17 rfl rfl)
theorem dX6_odds_90 : decode cX6_odds 90 = .ok (.isub, 1) := dk_100 (dk_at dksX6_odds_3 20 rfl rfl)
theorem dX6_odds_91 : decode cX6_odds 91 = .ok (.invokestatic 409, 3) := dk_184 1 153 (dk_at dksX6_odds_3 21 rfl rfl)
theorem dX6_odds_94 : decode cX6_odds 94 = .ok (.lmul, 1) := dk_105 (dk_at dksX6_odds_4 0 rfl rfl)
theorem dX6_odds_95 : decode cX6_odds 95 = .ok (.ladd, 1) := dk_97 (dk_at dksX6_odds_4 1 rfl rfl)
theorem dX6_odds_96 : decode cX6_odds 96 = .ok (.lstore_n 3, 1) := dk_66 (dk_at dksX6_odds_4 2 rfl rfl)
theorem dX6_odds_97 : decode cX6_odds 97 = .ok (.iinc 5 1, 3) := dk_132 5 1 (dk_at dksX6_odds_4 3 rfl rfl)
theorem dX6_odds_100 : decode cX6_odds 100 = .ok (.goto (-57), 3) := dk_167 255 199 (dk_at dksX6_odds_4 6 rfl rfl)
theorem dX6_odds_103 : decode cX6_odds 103 = .ok (.ldc2_w 413, 3) := dk_20 1 157 (dk_at dksX6_odds_4 9 rfl rfl)
theorem dX6_odds_106 : decode cX6_odds 106 = .ok (.lload_n 3, 1) := dk_33 (dk_at dksX6_odds_4 12 rfl rfl)
theorem dX6_odds_107 : decode cX6_odds 107 = .ok (.lmul, 1) := dk_105 (dk_at dksX6_odds_4 13 rfl rfl)
theorem dX6_odds_108 : decode cX6_odds 108 = .ok (.bipush 100, 2) := dk_16 100 (dk_at dksX6_odds_4 14 rfl rfl)
theorem dX6_odds_110 : decode cX6_odds 110 = .ok (.iload_n 1, 1) := dk_27 (dk_at dksX6_odds_4 16 rfl rfl)
theorem dX6_odds_111 : decode cX6_odds 111 = .ok (.invokestatic 409, 3) := dk_184 1 153 (dk_at dksX6_odds_4 17 rfl rfl)
theorem dX6_odds_114 : decode cX6_odds 114 = .ok (.ldiv, 1) := dk_109 (dk_at dksX6_odds_4 20 rfl rfl)
theorem dX6_odds_115 : decode cX6_odds 115 = .ok (.l2i, 1) := dk_136 (dk_at dksX6_odds_4 21 rfl rfl)
theorem dX6_odds_116 : decode cX6_odds 116 = .ok (.ireturn, 1) := dk_172 (dk_at dksX6_odds_4 22 rfl rfl)
abbrev cX6_power : ByteArray := prog_19_method_114_code
def yX6_power : MethodName := ⟨RX6, "power", "(II)J"⟩
def dkwX6_power_0 : List UInt8 := [10, 65, 3, 54, 4, 21, 4, 27, 162, 0, 14, 32, 26, 133, 105, 65, 132, 4, 1, 167, 255, 242, 32, 173]
abbrev dktX6_power_0 : List UInt8 := dkwX6_power_0 ++ []
theorem dksX6_power_0 : cX6_power.data.toList.drop 0 = dktX6_power_0 := by decide +kernel
theorem dX6_power_0 : decode cX6_power 0 = .ok (.lconst 1, 1) := dk_10 (dk_at dksX6_power_0 0 rfl rfl)
theorem dX6_power_1 : decode cX6_power 1 = .ok (.lstore_n 2, 1) := dk_65 (dk_at dksX6_power_0 1 rfl rfl)
theorem dX6_power_2 : decode cX6_power 2 = .ok (.iconst 0, 1) := dk_3 (dk_at dksX6_power_0 2 rfl rfl)
theorem dX6_power_3 : decode cX6_power 3 = .ok (.istore 4, 2) := dk_54 4 (dk_at dksX6_power_0 3 rfl rfl)
theorem dX6_power_5 : decode cX6_power 5 = .ok (.iload 4, 2) := dk_21 4 (dk_at dksX6_power_0 5 rfl rfl)
theorem dX6_power_7 : decode cX6_power 7 = .ok (.iload_n 1, 1) := dk_27 (dk_at dksX6_power_0 7 rfl rfl)
theorem dX6_power_8 : decode cX6_power 8 = .ok (.if_icmp .ge 14, 3) := dk_162 0 14 (dk_at dksX6_power_0 8 rfl rfl)
theorem dX6_power_11 : decode cX6_power 11 = .ok (.lload_n 2, 1) := dk_32 (dk_at dksX6_power_0 11 rfl rfl)
theorem dX6_power_12 : decode cX6_power 12 = .ok (.iload_n 0, 1) := dk_26 (dk_at dksX6_power_0 12 rfl rfl)
theorem dX6_power_13 : decode cX6_power 13 = .ok (.i2l, 1) := dk_133 (dk_at dksX6_power_0 13 rfl rfl)
theorem dX6_power_14 : decode cX6_power 14 = .ok (.lmul, 1) := dk_105 (dk_at dksX6_power_0 14 rfl rfl)
theorem dX6_power_15 : decode cX6_power 15 = .ok (.lstore_n 2, 1) := dk_65 (dk_at dksX6_power_0 15 rfl rfl)
theorem dX6_power_16 : decode cX6_power 16 = .ok (.iinc 4 1, 3) := dk_132 4 1 (dk_at dksX6_power_0 16 rfl rfl)
theorem dX6_power_19 : decode cX6_power 19 = .ok (.goto (-14), 3) := dk_167 255 242 (dk_at dksX6_power_0 19 rfl rfl)
theorem dX6_power_22 : decode cX6_power 22 = .ok (.lload_n 2, 1) := dk_32 (dk_at dksX6_power_0 22 rfl rfl)
theorem dX6_power_23 : decode cX6_power 23 = .ok (.lreturn, 1) := dk_173 (dk_at dksX6_power_0 23 rfl rfl)
abbrev cX6_waits : ByteArray := prog_19_method_116_code
def yX6_waits : MethodName := ⟨RX6, "waits", "(II)I"⟩
def dkwX6_waits_3 : List UInt8 := [184, 1, 153, 109, 136, 167, 0, 14, 33, 16, 100, 27, 5, 100, 184, 1, 153, 109, 136, 172]
abbrev dktX6_waits_3 : List UInt8 := dkwX6_waits_3 ++ []
def dkwX6_waits_2 : List UInt8 := [180, 0, 7, 8, 46, 27, 184, 1, 153, 101, 66, 27, 5, 162, 0, 19, 20, 1, 157, 33, 105, 16, 100, 27]
abbrev dktX6_waits_2 : List UInt8 := dkwX6_waits_2 ++ dktX6_waits_3
def dkwX6_waits_1 : List UInt8 := [167, 0, 4, 3, 181, 0, 54, 42, 180, 0, 54, 158, 0, 5, 3, 172, 16, 100, 27, 184, 1, 153, 42]
abbrev dktX6_waits_1 : List UInt8 := dkwX6_waits_1 ++ dktX6_waits_2
def dkwX6_waits_0 : List UInt8 := [42, 28, 184, 1, 75, 154, 0, 7, 4, 167, 0, 18, 27, 3, 16, 8, 184, 0, 57, 154, 0, 7, 5]
abbrev dktX6_waits_0 : List UInt8 := dkwX6_waits_0 ++ dktX6_waits_1
theorem dksX6_waits_0 : cX6_waits.data.toList.drop 0 = dktX6_waits_0 := by decide +kernel
theorem dksX6_waits_1 : cX6_waits.data.toList.drop 23 = dktX6_waits_1 := dk_seg dksX6_waits_0 23 rfl rfl
theorem dksX6_waits_2 : cX6_waits.data.toList.drop 46 = dktX6_waits_2 := dk_seg dksX6_waits_1 23 rfl rfl
theorem dksX6_waits_3 : cX6_waits.data.toList.drop 70 = dktX6_waits_3 := dk_seg dksX6_waits_2 24 rfl rfl
theorem dX6_waits_0 : decode cX6_waits 0 = .ok (.aload_n 0, 1) := dk_42 (dk_at dksX6_waits_0 0 rfl rfl)
theorem dX6_waits_1 : decode cX6_waits 1 = .ok (.iload_n 2, 1) := dk_28 (dk_at dksX6_waits_0 1 rfl rfl)
theorem dX6_waits_2 : decode cX6_waits 2 = .ok (.invokestatic 331, 3) := dk_184 1 75 (dk_at dksX6_waits_0 2 rfl rfl)
theorem dX6_waits_5 : decode cX6_waits 5 = .ok (.ifCond .ne 7, 3) := dk_154 0 7 (dk_at dksX6_waits_0 5 rfl rfl)
theorem dX6_waits_8 : decode cX6_waits 8 = .ok (.iconst 1, 1) := dk_4 (dk_at dksX6_waits_0 8 rfl rfl)
theorem dX6_waits_9 : decode cX6_waits 9 = .ok (.goto 18, 3) := dk_167 0 18 (dk_at dksX6_waits_0 9 rfl rfl)
theorem dX6_waits_12 : decode cX6_waits 12 = .ok (.iload_n 1, 1) := dk_27 (dk_at dksX6_waits_0 12 rfl rfl)
theorem dX6_waits_13 : decode cX6_waits 13 = .ok (.iconst 0, 1) := dk_3 (dk_at dksX6_waits_0 13 rfl rfl)
theorem dX6_waits_14 : decode cX6_waits 14 = .ok (.bipush 8, 2) := dk_16 8 (dk_at dksX6_waits_0 14 rfl rfl)
theorem dX6_waits_16 : decode cX6_waits 16 = .ok (.invokestatic 57, 3) := dk_184 0 57 (dk_at dksX6_waits_0 16 rfl rfl)
theorem dX6_waits_19 : decode cX6_waits 19 = .ok (.ifCond .ne 7, 3) := dk_154 0 7 (dk_at dksX6_waits_0 19 rfl rfl)
theorem dX6_waits_22 : decode cX6_waits 22 = .ok (.iconst 2, 1) := dk_5 (dk_at dksX6_waits_0 22 rfl rfl)
theorem dX6_waits_23 : decode cX6_waits 23 = .ok (.goto 4, 3) := dk_167 0 4 (dk_at dksX6_waits_1 0 rfl rfl)
theorem dX6_waits_26 : decode cX6_waits 26 = .ok (.iconst 0, 1) := dk_3 (dk_at dksX6_waits_1 3 rfl rfl)
theorem dX6_waits_27 : decode cX6_waits 27 = .ok (.putfield 54, 3) := dk_181 0 54 (dk_at dksX6_waits_1 4 rfl rfl)
theorem dX6_waits_30 : decode cX6_waits 30 = .ok (.aload_n 0, 1) := dk_42 (dk_at dksX6_waits_1 7 rfl rfl)
theorem dX6_waits_31 : decode cX6_waits 31 = .ok (.getfield 54, 3) := dk_180 0 54 (dk_at dksX6_waits_1 8 rfl rfl)
theorem dX6_waits_34 : decode cX6_waits 34 = .ok (.ifCond .le 5, 3) := dk_158 0 5 (dk_at dksX6_waits_1 11 rfl rfl)
theorem dX6_waits_37 : decode cX6_waits 37 = .ok (.iconst 0, 1) := dk_3 (dk_at dksX6_waits_1 14 rfl rfl)
theorem dX6_waits_38 : decode cX6_waits 38 = .ok (.ireturn, 1) := dk_172 (dk_at dksX6_waits_1 15 rfl rfl)
theorem dX6_waits_39 : decode cX6_waits 39 = .ok (.bipush 100, 2) := dk_16 100 (dk_at dksX6_waits_1 16 rfl rfl)
theorem dX6_waits_41 : decode cX6_waits 41 = .ok (.iload_n 1, 1) := dk_27 (dk_at dksX6_waits_1 18 rfl rfl)
theorem dX6_waits_42 : decode cX6_waits 42 = .ok (.invokestatic 409, 3) := dk_184 1 153 (dk_at dksX6_waits_1 19 rfl rfl)
theorem dX6_waits_45 : decode cX6_waits 45 = .ok (.aload_n 0, 1) := dk_42 (dk_at dksX6_waits_1 22 rfl rfl)
theorem dX6_waits_46 : decode cX6_waits 46 = .ok (.getfield 7, 3) := dk_180 0 7 (dk_at dksX6_waits_2 0 rfl rfl)
theorem dX6_waits_49 : decode cX6_waits 49 = .ok (.iconst 5, 1) := dk_8 (dk_at dksX6_waits_2 3 rfl rfl)
theorem dX6_waits_50 : decode cX6_waits 50 = .ok (.iaload, 1) := dk_46 (dk_at dksX6_waits_2 4 rfl rfl)
theorem dX6_waits_51 : decode cX6_waits 51 = .ok (.iload_n 1, 1) := dk_27 (dk_at dksX6_waits_2 5 rfl rfl)
theorem dX6_waits_52 : decode cX6_waits 52 = .ok (.invokestatic 409, 3) := dk_184 1 153 (dk_at dksX6_waits_2 6 rfl rfl)
theorem dX6_waits_55 : decode cX6_waits 55 = .ok (.lsub, 1) := dk_101 (dk_at dksX6_waits_2 9 rfl rfl)
theorem dX6_waits_56 : decode cX6_waits 56 = .ok (.lstore_n 3, 1) := dk_66 (dk_at dksX6_waits_2 10 rfl rfl)
theorem dX6_waits_57 : decode cX6_waits 57 = .ok (.iload_n 1, 1) := dk_27 (dk_at dksX6_waits_2 11 rfl rfl)
theorem dX6_waits_58 : decode cX6_waits 58 = .ok (.iconst 2, 1) := dk_5 (dk_at dksX6_waits_2 12 rfl rfl)
theorem dX6_waits_59 : decode cX6_waits 59 = .ok (.if_icmp .ge 19, 3) := dk_162 0 19 (dk_at dksX6_waits_2 13 rfl rfl)
theorem dX6_waits_62 : decode cX6_waits 62 = .ok (.ldc2_w 413, 3) := dk_20 1 157 (dk_at dksX6_waits_2 16 rfl rfl)
theorem dX6_waits_65 : decode cX6_waits 65 = .ok (.lload_n 3, 1) := dk_33 (dk_at dksX6_waits_2 19 rfl rfl)
theorem dX6_waits_66 : decode cX6_waits 66 = .ok (.lmul, 1) := dk_105 (dk_at dksX6_waits_2 20 rfl rfl)
theorem dX6_waits_67 : decode cX6_waits 67 = .ok (.bipush 100, 2) := dk_16 100 (dk_at dksX6_waits_2 21 rfl rfl)
theorem dX6_waits_69 : decode cX6_waits 69 = .ok (.iload_n 1, 1) := dk_27 (dk_at dksX6_waits_2 23 rfl rfl)
theorem dX6_waits_70 : decode cX6_waits 70 = .ok (.invokestatic 409, 3) := dk_184 1 153 (dk_at dksX6_waits_3 0 rfl rfl)
theorem dX6_waits_73 : decode cX6_waits 73 = .ok (.ldiv, 1) := dk_109 (dk_at dksX6_waits_3 3 rfl rfl)
theorem dX6_waits_74 : decode cX6_waits 74 = .ok (.l2i, 1) := dk_136 (dk_at dksX6_waits_3 4 rfl rfl)
theorem dX6_waits_75 : decode cX6_waits 75 = .ok (.goto 14, 3) := dk_167 0 14 (dk_at dksX6_waits_3 5 rfl rfl)
theorem dX6_waits_78 : decode cX6_waits 78 = .ok (.lload_n 3, 1) := dk_33 (dk_at dksX6_waits_3 8 rfl rfl)
theorem dX6_waits_79 : decode cX6_waits 79 = .ok (.bipush 100, 2) := dk_16 100 (dk_at dksX6_waits_3 9 rfl rfl)
theorem dX6_waits_81 : decode cX6_waits 81 = .ok (.iload_n 1, 1) := dk_27 (dk_at dksX6_waits_3 11 rfl rfl)
theorem dX6_waits_82 : decode cX6_waits 82 = .ok (.iconst 2, 1) := dk_5 (dk_at dksX6_waits_3 12 rfl rfl)
theorem dX6_waits_83 : decode cX6_waits 83 = .ok (.isub, 1) := dk_100 (dk_at dksX6_waits_3 13 rfl rfl)
theorem dX6_waits_84 : decode cX6_waits 84 = .ok (.invokestatic 409, 3) := dk_184 1 153 (dk_at dksX6_waits_3 14 rfl rfl)
theorem dX6_waits_87 : decode cX6_waits 87 = .ok (.ldiv, 1) := dk_109 (dk_at dksX6_waits_3 17 rfl rfl)
theorem dX6_waits_88 : decode cX6_waits 88 = .ok (.l2i, 1) := dk_136 (dk_at dksX6_waits_3 18 rfl rfl)
theorem dX6_waits_89 : decode cX6_waits 89 = .ok (.ireturn, 1) := dk_172 (dk_at dksX6_waits_3 19 rfl rfl)
abbrev cX6_treaty : ByteArray := prog_19_method_118_code
def yX6_treaty : MethodName := ⟨RX6, "treaty", "(II)I"⟩
def dkwX6_treaty_5 : List UInt8 := [132, 5, 1, 167, 255, 188, 29, 172]
abbrev dktX6_treaty_5 : List UInt8 := dkwX6_treaty_5 ++ []
def dkwX6_treaty_4 : List UInt8 := [21, 6, 21, 7, 104, 21, 4, 163, 0, 6, 167, 0, 13, 21, 6, 21, 7, 104, 54, 4, 21, 5, 62]
abbrev dktX6_treaty_4 : List UInt8 := dkwX6_treaty_4 ++ dktX6_treaty_5
def dkwX6_treaty_3 : List UInt8 := [28, 16, 8, 21, 5, 100, 182, 1, 159, 5, 100, 54, 7, 21, 6, 155, 0, 31, 21, 7, 155, 0, 26]
abbrev dktX6_treaty_3 : List UInt8 := dkwX6_treaty_3 ++ dktX6_treaty_4
def dkwX6_treaty_2 : List UInt8 := [54, 4, 3, 54, 5, 21, 5, 16, 8, 163, 0, 67, 42, 27, 21, 5, 182, 1, 159, 5, 100, 54, 6, 42]
abbrev dktX6_treaty_2 : List UInt8 := dkwX6_treaty_2 ++ dktX6_treaty_3
def dkwX6_treaty_1 : List UInt8 := [160, 0, 7, 5, 167, 0, 4, 3, 181, 0, 54, 42, 180, 0, 54, 158, 0, 5, 3, 172, 2, 62, 2]
abbrev dktX6_treaty_1 : List UInt8 := dkwX6_treaty_1 ++ dktX6_treaty_2
def dkwX6_treaty_0 : List UInt8 := [42, 42, 27, 182, 1, 54, 153, 0, 11, 42, 28, 182, 1, 54, 154, 0, 7, 4, 167, 0, 13, 27, 28]
abbrev dktX6_treaty_0 : List UInt8 := dkwX6_treaty_0 ++ dktX6_treaty_1
theorem dksX6_treaty_0 : cX6_treaty.data.toList.drop 0 = dktX6_treaty_0 := by decide +kernel
theorem dksX6_treaty_1 : cX6_treaty.data.toList.drop 23 = dktX6_treaty_1 := dk_seg dksX6_treaty_0 23 rfl rfl
theorem dksX6_treaty_2 : cX6_treaty.data.toList.drop 46 = dktX6_treaty_2 := dk_seg dksX6_treaty_1 23 rfl rfl
theorem dksX6_treaty_3 : cX6_treaty.data.toList.drop 70 = dktX6_treaty_3 := dk_seg dksX6_treaty_2 24 rfl rfl
theorem dksX6_treaty_4 : cX6_treaty.data.toList.drop 93 = dktX6_treaty_4 := dk_seg dksX6_treaty_3 23 rfl rfl
theorem dksX6_treaty_5 : cX6_treaty.data.toList.drop 116 = dktX6_treaty_5 := dk_seg dksX6_treaty_4 23 rfl rfl
theorem dX6_treaty_0 : decode cX6_treaty 0 = .ok (.aload_n 0, 1) := dk_42 (dk_at dksX6_treaty_0 0 rfl rfl)
theorem dX6_treaty_1 : decode cX6_treaty 1 = .ok (.aload_n 0, 1) := dk_42 (dk_at dksX6_treaty_0 1 rfl rfl)
theorem dX6_treaty_2 : decode cX6_treaty 2 = .ok (.iload_n 1, 1) := dk_27 (dk_at dksX6_treaty_0 2 rfl rfl)
theorem dX6_treaty_3 : decode cX6_treaty 3 = .ok (.invokevirtual 310, 3) := dk_182 1 54 (dk_at dksX6_treaty_0 3 rfl rfl)
theorem dX6_treaty_6 : decode cX6_treaty 6 = .ok (.ifCond .eq 11, 3) := dk_153 0 11 (dk_at dksX6_treaty_0 6 rfl rfl)
theorem dX6_treaty_9 : decode cX6_treaty 9 = .ok (.aload_n 0, 1) := dk_42 (dk_at dksX6_treaty_0 9 rfl rfl)
theorem dX6_treaty_10 : decode cX6_treaty 10 = .ok (.iload_n 2, 1) := dk_28 (dk_at dksX6_treaty_0 10 rfl rfl)
theorem dX6_treaty_11 : decode cX6_treaty 11 = .ok (.invokevirtual 310, 3) := dk_182 1 54 (dk_at dksX6_treaty_0 11 rfl rfl)
theorem dX6_treaty_14 : decode cX6_treaty 14 = .ok (.ifCond .ne 7, 3) := dk_154 0 7 (dk_at dksX6_treaty_0 14 rfl rfl)
theorem dX6_treaty_17 : decode cX6_treaty 17 = .ok (.iconst 1, 1) := dk_4 (dk_at dksX6_treaty_0 17 rfl rfl)
theorem dX6_treaty_18 : decode cX6_treaty 18 = .ok (.goto 13, 3) := dk_167 0 13 (dk_at dksX6_treaty_0 18 rfl rfl)
theorem dX6_treaty_21 : decode cX6_treaty 21 = .ok (.iload_n 1, 1) := dk_27 (dk_at dksX6_treaty_0 21 rfl rfl)
theorem dX6_treaty_22 : decode cX6_treaty 22 = .ok (.iload_n 2, 1) := dk_28 (dk_at dksX6_treaty_0 22 rfl rfl)
theorem dX6_treaty_23 : decode cX6_treaty 23 = .ok (.if_icmp .ne 7, 3) := dk_160 0 7 (dk_at dksX6_treaty_1 0 rfl rfl)
theorem dX6_treaty_26 : decode cX6_treaty 26 = .ok (.iconst 2, 1) := dk_5 (dk_at dksX6_treaty_1 3 rfl rfl)
theorem dX6_treaty_27 : decode cX6_treaty 27 = .ok (.goto 4, 3) := dk_167 0 4 (dk_at dksX6_treaty_1 4 rfl rfl)
theorem dX6_treaty_30 : decode cX6_treaty 30 = .ok (.iconst 0, 1) := dk_3 (dk_at dksX6_treaty_1 7 rfl rfl)
theorem dX6_treaty_31 : decode cX6_treaty 31 = .ok (.putfield 54, 3) := dk_181 0 54 (dk_at dksX6_treaty_1 8 rfl rfl)
theorem dX6_treaty_34 : decode cX6_treaty 34 = .ok (.aload_n 0, 1) := dk_42 (dk_at dksX6_treaty_1 11 rfl rfl)
theorem dX6_treaty_35 : decode cX6_treaty 35 = .ok (.getfield 54, 3) := dk_180 0 54 (dk_at dksX6_treaty_1 12 rfl rfl)
theorem dX6_treaty_38 : decode cX6_treaty 38 = .ok (.ifCond .le 5, 3) := dk_158 0 5 (dk_at dksX6_treaty_1 15 rfl rfl)
theorem dX6_treaty_41 : decode cX6_treaty 41 = .ok (.iconst 0, 1) := dk_3 (dk_at dksX6_treaty_1 18 rfl rfl)
theorem dX6_treaty_42 : decode cX6_treaty 42 = .ok (.ireturn, 1) := dk_172 (dk_at dksX6_treaty_1 19 rfl rfl)
theorem dX6_treaty_43 : decode cX6_treaty 43 = .ok (.iconst (-1), 1) := dk_2 (dk_at dksX6_treaty_1 20 rfl rfl)
theorem dX6_treaty_44 : decode cX6_treaty 44 = .ok (.istore_n 3, 1) := dk_62 (dk_at dksX6_treaty_1 21 rfl rfl)
theorem dX6_treaty_45 : decode cX6_treaty 45 = .ok (.iconst (-1), 1) := dk_2 (dk_at dksX6_treaty_1 22 rfl rfl)
theorem dX6_treaty_46 : decode cX6_treaty 46 = .ok (.istore 4, 2) := dk_54 4 (dk_at dksX6_treaty_2 0 rfl rfl)
theorem dX6_treaty_48 : decode cX6_treaty 48 = .ok (.iconst 0, 1) := dk_3 (dk_at dksX6_treaty_2 2 rfl rfl)
theorem dX6_treaty_49 : decode cX6_treaty 49 = .ok (.istore 5, 2) := dk_54 5 (dk_at dksX6_treaty_2 3 rfl rfl)
theorem dX6_treaty_51 : decode cX6_treaty 51 = .ok (.iload 5, 2) := dk_21 5 (dk_at dksX6_treaty_2 5 rfl rfl)
theorem dX6_treaty_53 : decode cX6_treaty 53 = .ok (.bipush 8, 2) := dk_16 8 (dk_at dksX6_treaty_2 7 rfl rfl)
theorem dX6_treaty_55 : decode cX6_treaty 55 = .ok (.if_icmp .gt 67, 3) := dk_163 0 67 (dk_at dksX6_treaty_2 9 rfl rfl)
theorem dX6_treaty_58 : decode cX6_treaty 58 = .ok (.aload_n 0, 1) := dk_42 (dk_at dksX6_treaty_2 12 rfl rfl)
theorem dX6_treaty_59 : decode cX6_treaty 59 = .ok (.iload_n 1, 1) := dk_27 (dk_at dksX6_treaty_2 13 rfl rfl)
theorem dX6_treaty_60 : decode cX6_treaty 60 = .ok (.iload 5, 2) := dk_21 5 (dk_at dksX6_treaty_2 14 rfl rfl)
theorem dX6_treaty_62 : decode cX6_treaty 62 = .ok (.invokevirtual 415, 3) := dk_182 1 159 (dk_at dksX6_treaty_2 16 rfl rfl)
theorem dX6_treaty_65 : decode cX6_treaty 65 = .ok (.iconst 2, 1) := dk_5 (dk_at dksX6_treaty_2 19 rfl rfl)
theorem dX6_treaty_66 : decode cX6_treaty 66 = .ok (.isub, 1) := dk_100 (dk_at dksX6_treaty_2 20 rfl rfl)
theorem dX6_treaty_67 : decode cX6_treaty 67 = .ok (.istore 6, 2) := dk_54 6 (dk_at dksX6_treaty_2 21 rfl rfl)
theorem dX6_treaty_69 : decode cX6_treaty 69 = .ok (.aload_n 0, 1) := dk_42 (dk_at dksX6_treaty_2 23 rfl rfl)
theorem dX6_treaty_70 : decode cX6_treaty 70 = .ok (.iload_n 2, 1) := dk_28 (dk_at dksX6_treaty_3 0 rfl rfl)
theorem dX6_treaty_71 : decode cX6_treaty 71 = .ok (.bipush 8, 2) := dk_16 8 (dk_at dksX6_treaty_3 1 rfl rfl)
theorem dX6_treaty_73 : decode cX6_treaty 73 = .ok (.iload 5, 2) := dk_21 5 (dk_at dksX6_treaty_3 3 rfl rfl)
theorem dX6_treaty_75 : decode cX6_treaty 75 = .ok (.isub, 1) := dk_100 (dk_at dksX6_treaty_3 5 rfl rfl)
theorem dX6_treaty_76 : decode cX6_treaty 76 = .ok (.invokevirtual 415, 3) := dk_182 1 159 (dk_at dksX6_treaty_3 6 rfl rfl)
theorem dX6_treaty_79 : decode cX6_treaty 79 = .ok (.iconst 2, 1) := dk_5 (dk_at dksX6_treaty_3 9 rfl rfl)
theorem dX6_treaty_80 : decode cX6_treaty 80 = .ok (.isub, 1) := dk_100 (dk_at dksX6_treaty_3 10 rfl rfl)
theorem dX6_treaty_81 : decode cX6_treaty 81 = .ok (.istore 7, 2) := dk_54 7 (dk_at dksX6_treaty_3 11 rfl rfl)
theorem dX6_treaty_83 : decode cX6_treaty 83 = .ok (.iload 6, 2) := dk_21 6 (dk_at dksX6_treaty_3 13 rfl rfl)
theorem dX6_treaty_85 : decode cX6_treaty 85 = .ok (.ifCond .lt 31, 3) := dk_155 0 31 (dk_at dksX6_treaty_3 15 rfl rfl)
theorem dX6_treaty_88 : decode cX6_treaty 88 = .ok (.iload 7, 2) := dk_21 7 (dk_at dksX6_treaty_3 18 rfl rfl)
theorem dX6_treaty_90 : decode cX6_treaty 90 = .ok (.ifCond .lt 26, 3) := dk_155 0 26 (dk_at dksX6_treaty_3 20 rfl rfl)
theorem dX6_treaty_93 : decode cX6_treaty 93 = .ok (.iload 6, 2) := dk_21 6 (dk_at dksX6_treaty_4 0 rfl rfl)
theorem dX6_treaty_95 : decode cX6_treaty 95 = .ok (.iload 7, 2) := dk_21 7 (dk_at dksX6_treaty_4 2 rfl rfl)
theorem dX6_treaty_97 : decode cX6_treaty 97 = .ok (.imul, 1) := dk_104 (dk_at dksX6_treaty_4 4 rfl rfl)
theorem dX6_treaty_98 : decode cX6_treaty 98 = .ok (.iload 4, 2) := dk_21 4 (dk_at dksX6_treaty_4 5 rfl rfl)
theorem dX6_treaty_100 : decode cX6_treaty 100 = .ok (.if_icmp .gt 6, 3) := dk_163 0 6 (dk_at dksX6_treaty_4 7 rfl rfl)
theorem dX6_treaty_103 : decode cX6_treaty 103 = .ok (.goto 13, 3) := dk_167 0 13 (dk_at dksX6_treaty_4 10 rfl rfl)
theorem dX6_treaty_106 : decode cX6_treaty 106 = .ok (.iload 6, 2) := dk_21 6 (dk_at dksX6_treaty_4 13 rfl rfl)
theorem dX6_treaty_108 : decode cX6_treaty 108 = .ok (.iload 7, 2) := dk_21 7 (dk_at dksX6_treaty_4 15 rfl rfl)
theorem dX6_treaty_110 : decode cX6_treaty 110 = .ok (.imul, 1) := dk_104 (dk_at dksX6_treaty_4 17 rfl rfl)
theorem dX6_treaty_111 : decode cX6_treaty 111 = .ok (.istore 4, 2) := dk_54 4 (dk_at dksX6_treaty_4 18 rfl rfl)
theorem dX6_treaty_113 : decode cX6_treaty 113 = .ok (.iload 5, 2) := dk_21 5 (dk_at dksX6_treaty_4 20 rfl rfl)
theorem dX6_treaty_115 : decode cX6_treaty 115 = .ok (.istore_n 3, 1) := dk_62 (dk_at dksX6_treaty_4 22 rfl rfl)
theorem dX6_treaty_116 : decode cX6_treaty 116 = .ok (.iinc 5 1, 3) := dk_132 5 1 (dk_at dksX6_treaty_5 0 rfl rfl)
theorem dX6_treaty_119 : decode cX6_treaty 119 = .ok (.goto (-68), 3) := dk_167 255 188 (dk_at dksX6_treaty_5 3 rfl rfl)
theorem dX6_treaty_122 : decode cX6_treaty 122 = .ok (.iload_n 3, 1) := dk_29 (dk_at dksX6_treaty_5 6 rfl rfl)
theorem dX6_treaty_123 : decode cX6_treaty 123 = .ok (.ireturn, 1) := dk_172 (dk_at dksX6_treaty_5 7 rfl rfl)
abbrev cX6_hasBy : ByteArray := prog_19_method_117_code
def yX6_hasBy : MethodName := ⟨RX6, "hasBy", "(II)I"⟩
def dkwX6_hasBy_1 : List UInt8 := [167, 0, 4, 3, 100, 172]
abbrev dktX6_hasBy_1 : List UInt8 := dkwX6_hasBy_1 ++ []
def dkwX6_hasBy_0 : List UInt8 := [42, 27, 3, 182, 0, 68, 4, 96, 28, 104, 28, 42, 27, 4, 182, 0, 68, 184, 1, 47, 164, 0, 7, 7]
abbrev dktX6_hasBy_0 : List UInt8 := dkwX6_hasBy_0 ++ dktX6_hasBy_1
theorem dksX6_hasBy_0 : cX6_hasBy.data.toList.drop 0 = dktX6_hasBy_0 := by decide +kernel
theorem dksX6_hasBy_1 : cX6_hasBy.data.toList.drop 24 = dktX6_hasBy_1 := dk_seg dksX6_hasBy_0 24 rfl rfl
theorem dX6_hasBy_0 : decode cX6_hasBy 0 = .ok (.aload_n 0, 1) := dk_42 (dk_at dksX6_hasBy_0 0 rfl rfl)
theorem dX6_hasBy_1 : decode cX6_hasBy 1 = .ok (.iload_n 1, 1) := dk_27 (dk_at dksX6_hasBy_0 1 rfl rfl)
theorem dX6_hasBy_2 : decode cX6_hasBy 2 = .ok (.iconst 0, 1) := dk_3 (dk_at dksX6_hasBy_0 2 rfl rfl)
theorem dX6_hasBy_3 : decode cX6_hasBy 3 = .ok (.invokevirtual 68, 3) := dk_182 0 68 (dk_at dksX6_hasBy_0 3 rfl rfl)
theorem dX6_hasBy_6 : decode cX6_hasBy 6 = .ok (.iconst 1, 1) := dk_4 (dk_at dksX6_hasBy_0 6 rfl rfl)
theorem dX6_hasBy_7 : decode cX6_hasBy 7 = .ok (.iadd, 1) := dk_96 (dk_at dksX6_hasBy_0 7 rfl rfl)
theorem dX6_hasBy_8 : decode cX6_hasBy 8 = .ok (.iload_n 2, 1) := dk_28 (dk_at dksX6_hasBy_0 8 rfl rfl)
theorem dX6_hasBy_9 : decode cX6_hasBy 9 = .ok (.imul, 1) := dk_104 (dk_at dksX6_hasBy_0 9 rfl rfl)
theorem dX6_hasBy_10 : decode cX6_hasBy 10 = .ok (.iload_n 2, 1) := dk_28 (dk_at dksX6_hasBy_0 10 rfl rfl)
theorem dX6_hasBy_11 : decode cX6_hasBy 11 = .ok (.aload_n 0, 1) := dk_42 (dk_at dksX6_hasBy_0 11 rfl rfl)
theorem dX6_hasBy_12 : decode cX6_hasBy 12 = .ok (.iload_n 1, 1) := dk_27 (dk_at dksX6_hasBy_0 12 rfl rfl)
theorem dX6_hasBy_13 : decode cX6_hasBy 13 = .ok (.iconst 1, 1) := dk_4 (dk_at dksX6_hasBy_0 13 rfl rfl)
theorem dX6_hasBy_14 : decode cX6_hasBy 14 = .ok (.invokevirtual 68, 3) := dk_182 0 68 (dk_at dksX6_hasBy_0 14 rfl rfl)
theorem dX6_hasBy_17 : decode cX6_hasBy 17 = .ok (.invokestatic 303, 3) := dk_184 1 47 (dk_at dksX6_hasBy_0 17 rfl rfl)
theorem dX6_hasBy_20 : decode cX6_hasBy 20 = .ok (.if_icmp .le 7, 3) := dk_164 0 7 (dk_at dksX6_hasBy_0 20 rfl rfl)
theorem dX6_hasBy_23 : decode cX6_hasBy 23 = .ok (.iconst 4, 1) := dk_7 (dk_at dksX6_hasBy_0 23 rfl rfl)
theorem dX6_hasBy_24 : decode cX6_hasBy 24 = .ok (.goto 4, 3) := dk_167 0 4 (dk_at dksX6_hasBy_1 0 rfl rfl)
theorem dX6_hasBy_27 : decode cX6_hasBy 27 = .ok (.iconst 0, 1) := dk_3 (dk_at dksX6_hasBy_1 3 rfl rfl)
theorem dX6_hasBy_28 : decode cX6_hasBy 28 = .ok (.isub, 1) := dk_100 (dk_at dksX6_hasBy_1 4 rfl rfl)
theorem dX6_hasBy_29 : decode cX6_hasBy 29 = .ok (.ireturn, 1) := dk_172 (dk_at dksX6_hasBy_1 5 rfl rfl)
abbrev cX6_rests : ByteArray := prog_19_method_121_code
def yX6_rests : MethodName := ⟨RX6, "rests", "(II)I"⟩
def dkwX6_rests_5 : List UInt8 := [172]
abbrev dktX6_rests_5 : List UInt8 := dkwX6_rests_5 ++ []
def dkwX6_rests_4 : List UInt8 := [21, 5, 21, 6, 182, 1, 165, 163, 0, 10, 29, 4, 21, 4, 120, 128, 62, 132, 4, 1, 167, 255, 184, 29]
abbrev dktX6_rests_4 : List UInt8 := dkwX6_rests_4 ++ dktX6_rests_5
def dkwX6_rests_3 : List UInt8 := [21, 6, 184, 1, 162, 163, 0, 35, 42, 27, 28, 21, 5, 4, 21, 6, 100, 182, 1, 165, 42, 27, 28]
abbrev dktX6_rests_3 : List UInt8 := dkwX6_rests_3 ++ dktX6_rests_4
def dkwX6_rests_2 : List UInt8 := [21, 4, 5, 108, 54, 5, 21, 4, 5, 112, 54, 6, 4, 21, 5, 100, 21, 6, 184, 1, 162, 21, 5]
abbrev dktX6_rests_2 : List UInt8 := dkwX6_rests_2 ++ dktX6_rests_3
def dkwX6_rests_1 : List UInt8 := [181, 0, 54, 42, 180, 0, 54, 158, 0, 5, 3, 172, 3, 62, 3, 54, 4, 21, 4, 7, 162, 0, 72]
abbrev dktX6_rests_1 : List UInt8 := dkwX6_rests_1 ++ dktX6_rests_2
def dkwX6_rests_0 : List UInt8 := [42, 42, 27, 182, 1, 54, 153, 0, 11, 42, 28, 182, 1, 66, 154, 0, 7, 4, 167, 0, 4, 3]
abbrev dktX6_rests_0 : List UInt8 := dkwX6_rests_0 ++ dktX6_rests_1
theorem dksX6_rests_0 : cX6_rests.data.toList.drop 0 = dktX6_rests_0 := by decide +kernel
theorem dksX6_rests_1 : cX6_rests.data.toList.drop 22 = dktX6_rests_1 := dk_seg dksX6_rests_0 22 rfl rfl
theorem dksX6_rests_2 : cX6_rests.data.toList.drop 45 = dktX6_rests_2 := dk_seg dksX6_rests_1 23 rfl rfl
theorem dksX6_rests_3 : cX6_rests.data.toList.drop 68 = dktX6_rests_3 := dk_seg dksX6_rests_2 23 rfl rfl
theorem dksX6_rests_4 : cX6_rests.data.toList.drop 91 = dktX6_rests_4 := dk_seg dksX6_rests_3 23 rfl rfl
theorem dksX6_rests_5 : cX6_rests.data.toList.drop 115 = dktX6_rests_5 := dk_seg dksX6_rests_4 24 rfl rfl
theorem dX6_rests_0 : decode cX6_rests 0 = .ok (.aload_n 0, 1) := dk_42 (dk_at dksX6_rests_0 0 rfl rfl)
theorem dX6_rests_1 : decode cX6_rests 1 = .ok (.aload_n 0, 1) := dk_42 (dk_at dksX6_rests_0 1 rfl rfl)
theorem dX6_rests_2 : decode cX6_rests 2 = .ok (.iload_n 1, 1) := dk_27 (dk_at dksX6_rests_0 2 rfl rfl)
theorem dX6_rests_3 : decode cX6_rests 3 = .ok (.invokevirtual 310, 3) := dk_182 1 54 (dk_at dksX6_rests_0 3 rfl rfl)
theorem dX6_rests_6 : decode cX6_rests 6 = .ok (.ifCond .eq 11, 3) := dk_153 0 11 (dk_at dksX6_rests_0 6 rfl rfl)
theorem dX6_rests_9 : decode cX6_rests 9 = .ok (.aload_n 0, 1) := dk_42 (dk_at dksX6_rests_0 9 rfl rfl)
theorem dX6_rests_10 : decode cX6_rests 10 = .ok (.iload_n 2, 1) := dk_28 (dk_at dksX6_rests_0 10 rfl rfl)
theorem dX6_rests_11 : decode cX6_rests 11 = .ok (.invokevirtual 322, 3) := dk_182 1 66 (dk_at dksX6_rests_0 11 rfl rfl)
theorem dX6_rests_14 : decode cX6_rests 14 = .ok (.ifCond .ne 7, 3) := dk_154 0 7 (dk_at dksX6_rests_0 14 rfl rfl)
theorem dX6_rests_17 : decode cX6_rests 17 = .ok (.iconst 1, 1) := dk_4 (dk_at dksX6_rests_0 17 rfl rfl)
theorem dX6_rests_18 : decode cX6_rests 18 = .ok (.goto 4, 3) := dk_167 0 4 (dk_at dksX6_rests_0 18 rfl rfl)
theorem dX6_rests_21 : decode cX6_rests 21 = .ok (.iconst 0, 1) := dk_3 (dk_at dksX6_rests_0 21 rfl rfl)
theorem dX6_rests_22 : decode cX6_rests 22 = .ok (.putfield 54, 3) := dk_181 0 54 (dk_at dksX6_rests_1 0 rfl rfl)
theorem dX6_rests_25 : decode cX6_rests 25 = .ok (.aload_n 0, 1) := dk_42 (dk_at dksX6_rests_1 3 rfl rfl)
theorem dX6_rests_26 : decode cX6_rests 26 = .ok (.getfield 54, 3) := dk_180 0 54 (dk_at dksX6_rests_1 4 rfl rfl)
theorem dX6_rests_29 : decode cX6_rests 29 = .ok (.ifCond .le 5, 3) := dk_158 0 5 (dk_at dksX6_rests_1 7 rfl rfl)
theorem dX6_rests_32 : decode cX6_rests 32 = .ok (.iconst 0, 1) := dk_3 (dk_at dksX6_rests_1 10 rfl rfl)
theorem dX6_rests_33 : decode cX6_rests 33 = .ok (.ireturn, 1) := dk_172 (dk_at dksX6_rests_1 11 rfl rfl)
theorem dX6_rests_34 : decode cX6_rests 34 = .ok (.iconst 0, 1) := dk_3 (dk_at dksX6_rests_1 12 rfl rfl)
theorem dX6_rests_35 : decode cX6_rests 35 = .ok (.istore_n 3, 1) := dk_62 (dk_at dksX6_rests_1 13 rfl rfl)
theorem dX6_rests_36 : decode cX6_rests 36 = .ok (.iconst 0, 1) := dk_3 (dk_at dksX6_rests_1 14 rfl rfl)
theorem dX6_rests_37 : decode cX6_rests 37 = .ok (.istore 4, 2) := dk_54 4 (dk_at dksX6_rests_1 15 rfl rfl)
theorem dX6_rests_39 : decode cX6_rests 39 = .ok (.iload 4, 2) := dk_21 4 (dk_at dksX6_rests_1 17 rfl rfl)
theorem dX6_rests_41 : decode cX6_rests 41 = .ok (.iconst 4, 1) := dk_7 (dk_at dksX6_rests_1 19 rfl rfl)
theorem dX6_rests_42 : decode cX6_rests 42 = .ok (.if_icmp .ge 72, 3) := dk_162 0 72 (dk_at dksX6_rests_1 20 rfl rfl)
theorem dX6_rests_45 : decode cX6_rests 45 = .ok (.iload 4, 2) := dk_21 4 (dk_at dksX6_rests_2 0 rfl rfl)
theorem dX6_rests_47 : decode cX6_rests 47 = .ok (.iconst 2, 1) := dk_5 (dk_at dksX6_rests_2 2 rfl rfl)
theorem dX6_rests_48 : decode cX6_rests 48 = .ok (.idiv, 1) := dk_108 (dk_at dksX6_rests_2 3 rfl rfl)
theorem dX6_rests_49 : decode cX6_rests 49 = .ok (.istore 5, 2) := dk_54 5 (dk_at dksX6_rests_2 4 rfl rfl)
theorem dX6_rests_51 : decode cX6_rests 51 = .ok (.iload 4, 2) := dk_21 4 (dk_at dksX6_rests_2 6 rfl rfl)
theorem dX6_rests_53 : decode cX6_rests 53 = .ok (.iconst 2, 1) := dk_5 (dk_at dksX6_rests_2 8 rfl rfl)
theorem dX6_rests_54 : decode cX6_rests 54 = .ok (.irem, 1) := dk_112 (dk_at dksX6_rests_2 9 rfl rfl)
theorem dX6_rests_55 : decode cX6_rests 55 = .ok (.istore 6, 2) := dk_54 6 (dk_at dksX6_rests_2 10 rfl rfl)
theorem dX6_rests_57 : decode cX6_rests 57 = .ok (.iconst 1, 1) := dk_4 (dk_at dksX6_rests_2 12 rfl rfl)
theorem dX6_rests_58 : decode cX6_rests 58 = .ok (.iload 5, 2) := dk_21 5 (dk_at dksX6_rests_2 13 rfl rfl)
theorem dX6_rests_60 : decode cX6_rests 60 = .ok (.isub, 1) := dk_100 (dk_at dksX6_rests_2 15 rfl rfl)
theorem dX6_rests_61 : decode cX6_rests 61 = .ok (.iload 6, 2) := dk_21 6 (dk_at dksX6_rests_2 16 rfl rfl)
theorem dX6_rests_63 : decode cX6_rests 63 = .ok (.invokestatic 418, 3) := dk_184 1 162 (dk_at dksX6_rests_2 18 rfl rfl)
theorem dX6_rests_66 : decode cX6_rests 66 = .ok (.iload 5, 2) := dk_21 5 (dk_at dksX6_rests_2 21 rfl rfl)
theorem dX6_rests_68 : decode cX6_rests 68 = .ok (.iload 6, 2) := dk_21 6 (dk_at dksX6_rests_3 0 rfl rfl)
theorem dX6_rests_70 : decode cX6_rests 70 = .ok (.invokestatic 418, 3) := dk_184 1 162 (dk_at dksX6_rests_3 2 rfl rfl)
theorem dX6_rests_73 : decode cX6_rests 73 = .ok (.if_icmp .gt 35, 3) := dk_163 0 35 (dk_at dksX6_rests_3 5 rfl rfl)
theorem dX6_rests_76 : decode cX6_rests 76 = .ok (.aload_n 0, 1) := dk_42 (dk_at dksX6_rests_3 8 rfl rfl)
theorem dX6_rests_77 : decode cX6_rests 77 = .ok (.iload_n 1, 1) := dk_27 (dk_at dksX6_rests_3 9 rfl rfl)
theorem dX6_rests_78 : decode cX6_rests 78 = .ok (.iload_n 2, 1) := dk_28 (dk_at dksX6_rests_3 10 rfl rfl)
theorem dX6_rests_79 : decode cX6_rests 79 = .ok (.iload 5, 2) := dk_21 5 (dk_at dksX6_rests_3 11 rfl rfl)
theorem dX6_rests_81 : decode cX6_rests 81 = .ok (.iconst 1, 1) := dk_4 (dk_at dksX6_rests_3 13 rfl rfl)
theorem dX6_rests_82 : decode cX6_rests 82 = .ok (.iload 6, 2) := dk_21 6 (dk_at dksX6_rests_3 14 rfl rfl)
theorem dX6_rests_84 : decode cX6_rests 84 = .ok (.isub, 1) := dk_100 (dk_at dksX6_rests_3 16 rfl rfl)
theorem dX6_rests_85 : decode cX6_rests 85 = .ok (.invokevirtual 421, 3) := dk_182 1 165 (dk_at dksX6_rests_3 17 rfl rfl)
theorem dX6_rests_88 : decode cX6_rests 88 = .ok (.aload_n 0, 1) := dk_42 (dk_at dksX6_rests_3 20 rfl rfl)
theorem dX6_rests_89 : decode cX6_rests 89 = .ok (.iload_n 1, 1) := dk_27 (dk_at dksX6_rests_3 21 rfl rfl)
theorem dX6_rests_90 : decode cX6_rests 90 = .ok (.iload_n 2, 1) := dk_28 (dk_at dksX6_rests_3 22 rfl rfl)
theorem dX6_rests_91 : decode cX6_rests 91 = .ok (.iload 5, 2) := dk_21 5 (dk_at dksX6_rests_4 0 rfl rfl)
theorem dX6_rests_93 : decode cX6_rests 93 = .ok (.iload 6, 2) := dk_21 6 (dk_at dksX6_rests_4 2 rfl rfl)
theorem dX6_rests_95 : decode cX6_rests 95 = .ok (.invokevirtual 421, 3) := dk_182 1 165 (dk_at dksX6_rests_4 4 rfl rfl)
theorem dX6_rests_98 : decode cX6_rests 98 = .ok (.if_icmp .gt 10, 3) := dk_163 0 10 (dk_at dksX6_rests_4 7 rfl rfl)
theorem dX6_rests_101 : decode cX6_rests 101 = .ok (.iload_n 3, 1) := dk_29 (dk_at dksX6_rests_4 10 rfl rfl)
theorem dX6_rests_102 : decode cX6_rests 102 = .ok (.iconst 1, 1) := dk_4 (dk_at dksX6_rests_4 11 rfl rfl)
theorem dX6_rests_103 : decode cX6_rests 103 = .ok (.iload 4, 2) := dk_21 4 (dk_at dksX6_rests_4 12 rfl rfl)
theorem dX6_rests_105 : decode cX6_rests 105 = .ok (.ishl, 1) := dk_120 (dk_at dksX6_rests_4 14 rfl rfl)
theorem dX6_rests_106 : decode cX6_rests 106 = .ok (.ior, 1) := dk_128 (dk_at dksX6_rests_4 15 rfl rfl)
theorem dX6_rests_107 : decode cX6_rests 107 = .ok (.istore_n 3, 1) := dk_62 (dk_at dksX6_rests_4 16 rfl rfl)
theorem dX6_rests_108 : decode cX6_rests 108 = .ok (.iinc 4 1, 3) := dk_132 4 1 (dk_at dksX6_rests_4 17 rfl rfl)
theorem dX6_rests_111 : decode cX6_rests 111 = .ok (.goto (-72), 3) := dk_167 255 184 (dk_at dksX6_rests_4 20 rfl rfl)
theorem dX6_rests_114 : decode cX6_rests 114 = .ok (.iload_n 3, 1) := dk_29 (dk_at dksX6_rests_4 23 rfl rfl)
theorem dX6_rests_115 : decode cX6_rests 115 = .ok (.ireturn, 1) := dk_172 (dk_at dksX6_rests_5 0 rfl rfl)
abbrev cX6_gateHas : ByteArray := prog_19_method_119_code
def yX6_gateHas : MethodName := ⟨RX6, "gateHas", "(II)I"⟩
def dkwX6_gateHas_1 : List UInt8 := [16, 254, 172]
abbrev dktX6_gateHas_1 : List UInt8 := dkwX6_gateHas_1 ++ []
def dkwX6_gateHas_0 : List UInt8 := [26, 154, 0, 15, 27, 154, 0, 7, 2, 167, 0, 17, 6, 167, 0, 13, 27, 154, 0, 7, 3, 167, 0, 5]
abbrev dktX6_gateHas_0 : List UInt8 := dkwX6_gateHas_0 ++ dktX6_gateHas_1
theorem dksX6_gateHas_0 : cX6_gateHas.data.toList.drop 0 = dktX6_gateHas_0 := by decide +kernel
theorem dksX6_gateHas_1 : cX6_gateHas.data.toList.drop 24 = dktX6_gateHas_1 := dk_seg dksX6_gateHas_0 24 rfl rfl
theorem dX6_gateHas_0 : decode cX6_gateHas 0 = .ok (.iload_n 0, 1) := dk_26 (dk_at dksX6_gateHas_0 0 rfl rfl)
theorem dX6_gateHas_1 : decode cX6_gateHas 1 = .ok (.ifCond .ne 15, 3) := dk_154 0 15 (dk_at dksX6_gateHas_0 1 rfl rfl)
theorem dX6_gateHas_4 : decode cX6_gateHas 4 = .ok (.iload_n 1, 1) := dk_27 (dk_at dksX6_gateHas_0 4 rfl rfl)
theorem dX6_gateHas_5 : decode cX6_gateHas 5 = .ok (.ifCond .ne 7, 3) := dk_154 0 7 (dk_at dksX6_gateHas_0 5 rfl rfl)
theorem dX6_gateHas_8 : decode cX6_gateHas 8 = .ok (.iconst (-1), 1) := dk_2 (dk_at dksX6_gateHas_0 8 rfl rfl)
theorem dX6_gateHas_9 : decode cX6_gateHas 9 = .ok (.goto 17, 3) := dk_167 0 17 (dk_at dksX6_gateHas_0 9 rfl rfl)
theorem dX6_gateHas_12 : decode cX6_gateHas 12 = .ok (.iconst 3, 1) := dk_6 (dk_at dksX6_gateHas_0 12 rfl rfl)
theorem dX6_gateHas_13 : decode cX6_gateHas 13 = .ok (.goto 13, 3) := dk_167 0 13 (dk_at dksX6_gateHas_0 13 rfl rfl)
theorem dX6_gateHas_16 : decode cX6_gateHas 16 = .ok (.iload_n 1, 1) := dk_27 (dk_at dksX6_gateHas_0 16 rfl rfl)
theorem dX6_gateHas_17 : decode cX6_gateHas 17 = .ok (.ifCond .ne 7, 3) := dk_154 0 7 (dk_at dksX6_gateHas_0 17 rfl rfl)
theorem dX6_gateHas_20 : decode cX6_gateHas 20 = .ok (.iconst 0, 1) := dk_3 (dk_at dksX6_gateHas_0 20 rfl rfl)
theorem dX6_gateHas_21 : decode cX6_gateHas 21 = .ok (.goto 5, 3) := dk_167 0 5 (dk_at dksX6_gateHas_0 21 rfl rfl)
theorem dX6_gateHas_24 : decode cX6_gateHas 24 = .ok (.bipush (-2), 2) := dk_16 254 (dk_at dksX6_gateHas_1 0 rfl rfl)
theorem dX6_gateHas_26 : decode cX6_gateHas 26 = .ok (.ireturn, 1) := dk_172 (dk_at dksX6_gateHas_1 2 rfl rfl)
abbrev cX6_comerHas : ByteArray := prog_19_method_120_code
def yX6_comerHas : MethodName := ⟨RX6, "comerHas", "(IIII)I"⟩
def dkwX6_comerHas_1 : List UInt8 := [167, 0, 4, 3, 172, 29, 154, 0, 8, 16, 253, 167, 0, 11, 42, 27, 28, 182, 0, 65, 4, 96, 172]
abbrev dktX6_comerHas_1 : List UInt8 := dkwX6_comerHas_1 ++ []
def dkwX6_comerHas_0 : List UInt8 := [21, 4, 154, 0, 27, 42, 42, 28, 5, 182, 0, 71, 182, 1, 12, 153, 0, 12, 42, 27, 28, 182, 0, 65]
abbrev dktX6_comerHas_0 : List UInt8 := dkwX6_comerHas_0 ++ dktX6_comerHas_1
theorem dksX6_comerHas_0 : cX6_comerHas.data.toList.drop 0 = dktX6_comerHas_0 := by decide +kernel
theorem dksX6_comerHas_1 : cX6_comerHas.data.toList.drop 24 = dktX6_comerHas_1 := dk_seg dksX6_comerHas_0 24 rfl rfl
theorem dX6_comerHas_0 : decode cX6_comerHas 0 = .ok (.iload 4, 2) := dk_21 4 (dk_at dksX6_comerHas_0 0 rfl rfl)
theorem dX6_comerHas_2 : decode cX6_comerHas 2 = .ok (.ifCond .ne 27, 3) := dk_154 0 27 (dk_at dksX6_comerHas_0 2 rfl rfl)
theorem dX6_comerHas_5 : decode cX6_comerHas 5 = .ok (.aload_n 0, 1) := dk_42 (dk_at dksX6_comerHas_0 5 rfl rfl)
theorem dX6_comerHas_6 : decode cX6_comerHas 6 = .ok (.aload_n 0, 1) := dk_42 (dk_at dksX6_comerHas_0 6 rfl rfl)
theorem dX6_comerHas_7 : decode cX6_comerHas 7 = .ok (.iload_n 2, 1) := dk_28 (dk_at dksX6_comerHas_0 7 rfl rfl)
theorem dX6_comerHas_8 : decode cX6_comerHas 8 = .ok (.iconst 2, 1) := dk_5 (dk_at dksX6_comerHas_0 8 rfl rfl)
theorem dX6_comerHas_9 : decode cX6_comerHas 9 = .ok (.invokevirtual 71, 3) := dk_182 0 71 (dk_at dksX6_comerHas_0 9 rfl rfl)
theorem dX6_comerHas_12 : decode cX6_comerHas 12 = .ok (.invokevirtual 268, 3) := dk_182 1 12 (dk_at dksX6_comerHas_0 12 rfl rfl)
theorem dX6_comerHas_15 : decode cX6_comerHas 15 = .ok (.ifCond .eq 12, 3) := dk_153 0 12 (dk_at dksX6_comerHas_0 15 rfl rfl)
theorem dX6_comerHas_18 : decode cX6_comerHas 18 = .ok (.aload_n 0, 1) := dk_42 (dk_at dksX6_comerHas_0 18 rfl rfl)
theorem dX6_comerHas_19 : decode cX6_comerHas 19 = .ok (.iload_n 1, 1) := dk_27 (dk_at dksX6_comerHas_0 19 rfl rfl)
theorem dX6_comerHas_20 : decode cX6_comerHas 20 = .ok (.iload_n 2, 1) := dk_28 (dk_at dksX6_comerHas_0 20 rfl rfl)
theorem dX6_comerHas_21 : decode cX6_comerHas 21 = .ok (.invokevirtual 65, 3) := dk_182 0 65 (dk_at dksX6_comerHas_0 21 rfl rfl)
theorem dX6_comerHas_24 : decode cX6_comerHas 24 = .ok (.goto 4, 3) := dk_167 0 4 (dk_at dksX6_comerHas_1 0 rfl rfl)
theorem dX6_comerHas_27 : decode cX6_comerHas 27 = .ok (.iconst 0, 1) := dk_3 (dk_at dksX6_comerHas_1 3 rfl rfl)
theorem dX6_comerHas_28 : decode cX6_comerHas 28 = .ok (.ireturn, 1) := dk_172 (dk_at dksX6_comerHas_1 4 rfl rfl)
theorem dX6_comerHas_29 : decode cX6_comerHas 29 = .ok (.iload_n 3, 1) := dk_29 (dk_at dksX6_comerHas_1 5 rfl rfl)
theorem dX6_comerHas_30 : decode cX6_comerHas 30 = .ok (.ifCond .ne 8, 3) := dk_154 0 8 (dk_at dksX6_comerHas_1 6 rfl rfl)
theorem dX6_comerHas_33 : decode cX6_comerHas 33 = .ok (.bipush (-3), 2) := dk_16 253 (dk_at dksX6_comerHas_1 9 rfl rfl)
theorem dX6_comerHas_35 : decode cX6_comerHas 35 = .ok (.goto 11, 3) := dk_167 0 11 (dk_at dksX6_comerHas_1 11 rfl rfl)
theorem dX6_comerHas_38 : decode cX6_comerHas 38 = .ok (.aload_n 0, 1) := dk_42 (dk_at dksX6_comerHas_1 14 rfl rfl)
theorem dX6_comerHas_39 : decode cX6_comerHas 39 = .ok (.iload_n 1, 1) := dk_27 (dk_at dksX6_comerHas_1 15 rfl rfl)
theorem dX6_comerHas_40 : decode cX6_comerHas 40 = .ok (.iload_n 2, 1) := dk_28 (dk_at dksX6_comerHas_1 16 rfl rfl)
theorem dX6_comerHas_41 : decode cX6_comerHas 41 = .ok (.invokevirtual 65, 3) := dk_182 0 65 (dk_at dksX6_comerHas_1 17 rfl rfl)
theorem dX6_comerHas_44 : decode cX6_comerHas 44 = .ok (.iconst 1, 1) := dk_4 (dk_at dksX6_comerHas_1 20 rfl rfl)
theorem dX6_comerHas_45 : decode cX6_comerHas 45 = .ok (.iadd, 1) := dk_96 (dk_at dksX6_comerHas_1 21 rfl rfl)
theorem dX6_comerHas_46 : decode cX6_comerHas 46 = .ok (.ireturn, 1) := dk_172 (dk_at dksX6_comerHas_1 22 rfl rfl)
abbrev cX6_dearest : ByteArray := prog_19_method_122_code
def yX6_dearest : MethodName := ⟨RX6, "dearest", "()I"⟩
def dkwX6_dearest_1 : List UInt8 := [42, 28, 182, 1, 72, 42, 27, 182, 1, 72, 164, 0, 5, 28, 60, 132, 2, 1, 167, 255, 223, 27, 172]
abbrev dktX6_dearest_1 : List UInt8 := dkwX6_dearest_1 ++ []
def dkwX6_dearest_0 : List UInt8 := [42, 3, 181, 0, 54, 2, 60, 3, 61, 28, 42, 180, 0, 7, 7, 46, 162, 0, 29, 27, 2, 159, 0, 16]
abbrev dktX6_dearest_0 : List UInt8 := dkwX6_dearest_0 ++ dktX6_dearest_1
theorem dksX6_dearest_0 : cX6_dearest.data.toList.drop 0 = dktX6_dearest_0 := by decide +kernel
theorem dksX6_dearest_1 : cX6_dearest.data.toList.drop 24 = dktX6_dearest_1 := dk_seg dksX6_dearest_0 24 rfl rfl
theorem dX6_dearest_0 : decode cX6_dearest 0 = .ok (.aload_n 0, 1) := dk_42 (dk_at dksX6_dearest_0 0 rfl rfl)
theorem dX6_dearest_1 : decode cX6_dearest 1 = .ok (.iconst 0, 1) := dk_3 (dk_at dksX6_dearest_0 1 rfl rfl)
theorem dX6_dearest_2 : decode cX6_dearest 2 = .ok (.putfield 54, 3) := dk_181 0 54 (dk_at dksX6_dearest_0 2 rfl rfl)
theorem dX6_dearest_5 : decode cX6_dearest 5 = .ok (.iconst (-1), 1) := dk_2 (dk_at dksX6_dearest_0 5 rfl rfl)
theorem dX6_dearest_6 : decode cX6_dearest 6 = .ok (.istore_n 1, 1) := dk_60 (dk_at dksX6_dearest_0 6 rfl rfl)
theorem dX6_dearest_7 : decode cX6_dearest 7 = .ok (.iconst 0, 1) := dk_3 (dk_at dksX6_dearest_0 7 rfl rfl)
theorem dX6_dearest_8 : decode cX6_dearest 8 = .ok (.istore_n 2, 1) := dk_61 (dk_at dksX6_dearest_0 8 rfl rfl)
theorem dX6_dearest_9 : decode cX6_dearest 9 = .ok (.iload_n 2, 1) := dk_28 (dk_at dksX6_dearest_0 9 rfl rfl)
theorem dX6_dearest_10 : decode cX6_dearest 10 = .ok (.aload_n 0, 1) := dk_42 (dk_at dksX6_dearest_0 10 rfl rfl)
theorem dX6_dearest_11 : decode cX6_dearest 11 = .ok (.getfield 7, 3) := dk_180 0 7 (dk_at dksX6_dearest_0 11 rfl rfl)
theorem dX6_dearest_14 : decode cX6_dearest 14 = .ok (.iconst 4, 1) := dk_7 (dk_at dksX6_dearest_0 14 rfl rfl)
theorem dX6_dearest_15 : decode cX6_dearest 15 = .ok (.iaload, 1) := dk_46 (dk_at dksX6_dearest_0 15 rfl rfl)
theorem dX6_dearest_16 : decode cX6_dearest 16 = .ok (.if_icmp .ge 29, 3) := dk_162 0 29 (dk_at dksX6_dearest_0 16 rfl rfl)
theorem dX6_dearest_19 : decode cX6_dearest 19 = .ok (.iload_n 1, 1) := dk_27 (dk_at dksX6_dearest_0 19 rfl rfl)
theorem dX6_dearest_20 : decode cX6_dearest 20 = .ok (.iconst (-1), 1) := dk_2 (dk_at dksX6_dearest_0 20 rfl rfl)
theorem dX6_dearest_21 : decode cX6_dearest 21 = .ok (.if_icmp .eq 16, 3) := dk_159 0 16 (dk_at dksX6_dearest_0 21 rfl rfl)
theorem dX6_dearest_24 : decode cX6_dearest 24 = .ok (.aload_n 0, 1) := dk_42 (dk_at dksX6_dearest_1 0 rfl rfl)
theorem dX6_dearest_25 : decode cX6_dearest 25 = .ok (.iload_n 2, 1) := dk_28 (dk_at dksX6_dearest_1 1 rfl rfl)
theorem dX6_dearest_26 : decode cX6_dearest 26 = .ok (.invokevirtual 328, 3) := dk_182 1 72 (dk_at dksX6_dearest_1 2 rfl rfl)
theorem dX6_dearest_29 : decode cX6_dearest 29 = .ok (.aload_n 0, 1) := dk_42 (dk_at dksX6_dearest_1 5 rfl rfl)
theorem dX6_dearest_30 : decode cX6_dearest 30 = .ok (.iload_n 1, 1) := dk_27 (dk_at dksX6_dearest_1 6 rfl rfl)
theorem dX6_dearest_31 : decode cX6_dearest 31 = .ok (.invokevirtual 328, 3) := dk_182 1 72 (dk_at dksX6_dearest_1 7 rfl rfl)
theorem dX6_dearest_34 : decode cX6_dearest 34 = .ok (.if_icmp .le 5, 3) := dk_164 0 5 (dk_at dksX6_dearest_1 10 rfl rfl)
theorem dX6_dearest_37 : decode cX6_dearest 37 = .ok (.iload_n 2, 1) := dk_28 (dk_at dksX6_dearest_1 13 rfl rfl)
theorem dX6_dearest_38 : decode cX6_dearest 38 = .ok (.istore_n 1, 1) := dk_60 (dk_at dksX6_dearest_1 14 rfl rfl)
theorem dX6_dearest_39 : decode cX6_dearest 39 = .ok (.iinc 2 1, 3) := dk_132 2 1 (dk_at dksX6_dearest_1 15 rfl rfl)
theorem dX6_dearest_42 : decode cX6_dearest 42 = .ok (.goto (-33), 3) := dk_167 255 223 (dk_at dksX6_dearest_1 18 rfl rfl)
theorem dX6_dearest_45 : decode cX6_dearest 45 = .ok (.iload_n 1, 1) := dk_27 (dk_at dksX6_dearest_1 21 rfl rfl)
theorem dX6_dearest_46 : decode cX6_dearest 46 = .ok (.ireturn, 1) := dk_172 (dk_at dksX6_dearest_1 22 rfl rfl)
abbrev cX6_forlorn : ByteArray := prog_19_method_123_code
def yX6_forlorn : MethodName := ⟨RX6, "forlorn", "()I"⟩
def dkwX6_forlorn_4 : List UInt8 := [120, 167, 0, 4, 3, 128, 60, 132, 2, 1, 167, 255, 160, 27, 172]
abbrev dktX6_forlorn_4 : List UInt8 := dkwX6_forlorn_4 ++ []
def dkwX6_forlorn_3 : List UInt8 := [167, 0, 4, 3, 62, 132, 5, 1, 167, 255, 224, 132, 4, 1, 167, 255, 204, 27, 29, 153, 0, 9, 4, 28]
abbrev dktX6_forlorn_3 : List UInt8 := dkwX6_forlorn_3 ++ dktX6_forlorn_4
def dkwX6_forlorn_2 : List UInt8 := [21, 5, 16, 8, 162, 0, 31, 29, 153, 0, 27, 42, 28, 21, 4, 21, 5, 182, 1, 24, 154, 0, 7, 4]
abbrev dktX6_forlorn_2 : List UInt8 := dkwX6_forlorn_2 ++ dktX6_forlorn_3
def dkwX6_forlorn_1 : List UInt8 := [46, 158, 0, 83, 4, 62, 3, 54, 4, 21, 4, 42, 180, 0, 7, 7, 46, 162, 0, 47, 3, 54, 5]
abbrev dktX6_forlorn_1 : List UInt8 := dkwX6_forlorn_1 ++ dktX6_forlorn_2
def dkwX6_forlorn_0 : List UInt8 := [42, 3, 181, 0, 54, 3, 60, 3, 61, 28, 42, 180, 0, 7, 6, 46, 162, 0, 92, 42, 180, 0, 7, 7]
abbrev dktX6_forlorn_0 : List UInt8 := dkwX6_forlorn_0 ++ dktX6_forlorn_1
theorem dksX6_forlorn_0 : cX6_forlorn.data.toList.drop 0 = dktX6_forlorn_0 := by decide +kernel
theorem dksX6_forlorn_1 : cX6_forlorn.data.toList.drop 24 = dktX6_forlorn_1 := dk_seg dksX6_forlorn_0 24 rfl rfl
theorem dksX6_forlorn_2 : cX6_forlorn.data.toList.drop 47 = dktX6_forlorn_2 := dk_seg dksX6_forlorn_1 23 rfl rfl
theorem dksX6_forlorn_3 : cX6_forlorn.data.toList.drop 71 = dktX6_forlorn_3 := dk_seg dksX6_forlorn_2 24 rfl rfl
theorem dksX6_forlorn_4 : cX6_forlorn.data.toList.drop 95 = dktX6_forlorn_4 := dk_seg dksX6_forlorn_3 24 rfl rfl
theorem dX6_forlorn_0 : decode cX6_forlorn 0 = .ok (.aload_n 0, 1) := dk_42 (dk_at dksX6_forlorn_0 0 rfl rfl)
theorem dX6_forlorn_1 : decode cX6_forlorn 1 = .ok (.iconst 0, 1) := dk_3 (dk_at dksX6_forlorn_0 1 rfl rfl)
theorem dX6_forlorn_2 : decode cX6_forlorn 2 = .ok (.putfield 54, 3) := dk_181 0 54 (dk_at dksX6_forlorn_0 2 rfl rfl)
theorem dX6_forlorn_5 : decode cX6_forlorn 5 = .ok (.iconst 0, 1) := dk_3 (dk_at dksX6_forlorn_0 5 rfl rfl)
theorem dX6_forlorn_6 : decode cX6_forlorn 6 = .ok (.istore_n 1, 1) := dk_60 (dk_at dksX6_forlorn_0 6 rfl rfl)
theorem dX6_forlorn_7 : decode cX6_forlorn 7 = .ok (.iconst 0, 1) := dk_3 (dk_at dksX6_forlorn_0 7 rfl rfl)
theorem dX6_forlorn_8 : decode cX6_forlorn 8 = .ok (.istore_n 2, 1) := dk_61 (dk_at dksX6_forlorn_0 8 rfl rfl)
theorem dX6_forlorn_9 : decode cX6_forlorn 9 = .ok (.iload_n 2, 1) := dk_28 (dk_at dksX6_forlorn_0 9 rfl rfl)
theorem dX6_forlorn_10 : decode cX6_forlorn 10 = .ok (.aload_n 0, 1) := dk_42 (dk_at dksX6_forlorn_0 10 rfl rfl)
theorem dX6_forlorn_11 : decode cX6_forlorn 11 = .ok (.getfield 7, 3) := dk_180 0 7 (dk_at dksX6_forlorn_0 11 rfl rfl)
theorem dX6_forlorn_14 : decode cX6_forlorn 14 = .ok (.iconst 3, 1) := dk_6 (dk_at dksX6_forlorn_0 14 rfl rfl)
theorem dX6_forlorn_15 : decode cX6_forlorn 15 = .ok (.iaload, 1) := dk_46 (dk_at dksX6_forlorn_0 15 rfl rfl)
theorem dX6_forlorn_16 : decode cX6_forlorn 16 = .ok (.if_icmp .ge 92, 3) := dk_162 0 92 (dk_at dksX6_forlorn_0 16 rfl rfl)
theorem dX6_forlorn_19 : decode cX6_forlorn 19 = .ok (.aload_n 0, 1) := dk_42 (dk_at dksX6_forlorn_0 19 rfl rfl)
theorem dX6_forlorn_20 : decode cX6_forlorn 20 = .ok (.getfield 7, 3) := dk_180 0 7 (dk_at dksX6_forlorn_0 20 rfl rfl)
theorem dX6_forlorn_23 : decode cX6_forlorn 23 = .ok (.iconst 4, 1) := dk_7 (dk_at dksX6_forlorn_0 23 rfl rfl)
theorem dX6_forlorn_24 : decode cX6_forlorn 24 = .ok (.iaload, 1) := dk_46 (dk_at dksX6_forlorn_1 0 rfl rfl)
theorem dX6_forlorn_25 : decode cX6_forlorn 25 = .ok (.ifCond .le 83, 3) := dk_158 0 83 (dk_at dksX6_forlorn_1 1 rfl rfl)
theorem dX6_forlorn_28 : decode cX6_forlorn 28 = .ok (.iconst 1, 1) := dk_4 (dk_at dksX6_forlorn_1 4 rfl rfl)
theorem dX6_forlorn_29 : decode cX6_forlorn 29 = .ok (.istore_n 3, 1) := dk_62 (dk_at dksX6_forlorn_1 5 rfl rfl)
theorem dX6_forlorn_30 : decode cX6_forlorn 30 = .ok (.iconst 0, 1) := dk_3 (dk_at dksX6_forlorn_1 6 rfl rfl)
theorem dX6_forlorn_31 : decode cX6_forlorn 31 = .ok (.istore 4, 2) := dk_54 4 (dk_at dksX6_forlorn_1 7 rfl rfl)
theorem dX6_forlorn_33 : decode cX6_forlorn 33 = .ok (.iload 4, 2) := dk_21 4 (dk_at dksX6_forlorn_1 9 rfl rfl)
theorem dX6_forlorn_35 : decode cX6_forlorn 35 = .ok (.aload_n 0, 1) := dk_42 (dk_at dksX6_forlorn_1 11 rfl rfl)
theorem dX6_forlorn_36 : decode cX6_forlorn 36 = .ok (.getfield 7, 3) := dk_180 0 7 (dk_at dksX6_forlorn_1 12 rfl rfl)
theorem dX6_forlorn_39 : decode cX6_forlorn 39 = .ok (.iconst 4, 1) := dk_7 (dk_at dksX6_forlorn_1 15 rfl rfl)
theorem dX6_forlorn_40 : decode cX6_forlorn 40 = .ok (.iaload, 1) := dk_46 (dk_at dksX6_forlorn_1 16 rfl rfl)
theorem dX6_forlorn_41 : decode cX6_forlorn 41 = .ok (.if_icmp .ge 47, 3) := dk_162 0 47 (dk_at dksX6_forlorn_1 17 rfl rfl)
theorem dX6_forlorn_44 : decode cX6_forlorn 44 = .ok (.iconst 0, 1) := dk_3 (dk_at dksX6_forlorn_1 20 rfl rfl)
theorem dX6_forlorn_45 : decode cX6_forlorn 45 = .ok (.istore 5, 2) := dk_54 5 (dk_at dksX6_forlorn_1 21 rfl rfl)
theorem dX6_forlorn_47 : decode cX6_forlorn 47 = .ok (.iload 5, 2) := dk_21 5 (dk_at dksX6_forlorn_2 0 rfl rfl)
theorem dX6_forlorn_49 : decode cX6_forlorn 49 = .ok (.bipush 8, 2) := dk_16 8 (dk_at dksX6_forlorn_2 2 rfl rfl)
theorem dX6_forlorn_51 : decode cX6_forlorn 51 = .ok (.if_icmp .ge 31, 3) := dk_162 0 31 (dk_at dksX6_forlorn_2 4 rfl rfl)
theorem dX6_forlorn_54 : decode cX6_forlorn 54 = .ok (.iload_n 3, 1) := dk_29 (dk_at dksX6_forlorn_2 7 rfl rfl)
theorem dX6_forlorn_55 : decode cX6_forlorn 55 = .ok (.ifCond .eq 27, 3) := dk_153 0 27 (dk_at dksX6_forlorn_2 8 rfl rfl)
theorem dX6_forlorn_58 : decode cX6_forlorn 58 = .ok (.aload_n 0, 1) := dk_42 (dk_at dksX6_forlorn_2 11 rfl rfl)
theorem dX6_forlorn_59 : decode cX6_forlorn 59 = .ok (.iload_n 2, 1) := dk_28 (dk_at dksX6_forlorn_2 12 rfl rfl)
theorem dX6_forlorn_60 : decode cX6_forlorn 60 = .ok (.iload 4, 2) := dk_21 4 (dk_at dksX6_forlorn_2 13 rfl rfl)
theorem dX6_forlorn_62 : decode cX6_forlorn 62 = .ok (.iload 5, 2) := dk_21 5 (dk_at dksX6_forlorn_2 15 rfl rfl)
theorem dX6_forlorn_64 : decode cX6_forlorn 64 = .ok (.invokevirtual 280, 3) := dk_182 1 24 (dk_at dksX6_forlorn_2 17 rfl rfl)
theorem dX6_forlorn_67 : decode cX6_forlorn 67 = .ok (.ifCond .ne 7, 3) := dk_154 0 7 (dk_at dksX6_forlorn_2 20 rfl rfl)
theorem dX6_forlorn_70 : decode cX6_forlorn 70 = .ok (.iconst 1, 1) := dk_4 (dk_at dksX6_forlorn_2 23 rfl rfl)
theorem dX6_forlorn_71 : decode cX6_forlorn 71 = .ok (.goto 4, 3) := dk_167 0 4 (dk_at dksX6_forlorn_3 0 rfl rfl)
theorem dX6_forlorn_74 : decode cX6_forlorn 74 = .ok (.iconst 0, 1) := dk_3 (dk_at dksX6_forlorn_3 3 rfl rfl)
theorem dX6_forlorn_75 : decode cX6_forlorn 75 = .ok (.istore_n 3, 1) := dk_62 (dk_at dksX6_forlorn_3 4 rfl rfl)
theorem dX6_forlorn_76 : decode cX6_forlorn 76 = .ok (.iinc 5 1, 3) := dk_132 5 1 (dk_at dksX6_forlorn_3 5 rfl rfl)
theorem dX6_forlorn_79 : decode cX6_forlorn 79 = .ok (.goto (-32), 3) := dk_167 255 224 (dk_at dksX6_forlorn_3 8 rfl rfl)
theorem dX6_forlorn_82 : decode cX6_forlorn 82 = .ok (.iinc 4 1, 3) := dk_132 4 1 (dk_at dksX6_forlorn_3 11 rfl rfl)
theorem dX6_forlorn_85 : decode cX6_forlorn 85 = .ok (.goto (-52), 3) := dk_167 255 204 (dk_at dksX6_forlorn_3 14 rfl rfl)
theorem dX6_forlorn_88 : decode cX6_forlorn 88 = .ok (.iload_n 1, 1) := dk_27 (dk_at dksX6_forlorn_3 17 rfl rfl)
theorem dX6_forlorn_89 : decode cX6_forlorn 89 = .ok (.iload_n 3, 1) := dk_29 (dk_at dksX6_forlorn_3 18 rfl rfl)
theorem dX6_forlorn_90 : decode cX6_forlorn 90 = .ok (.ifCond .eq 9, 3) := dk_153 0 9 (dk_at dksX6_forlorn_3 19 rfl rfl)
theorem dX6_forlorn_93 : decode cX6_forlorn 93 = .ok (.iconst 1, 1) := dk_4 (dk_at dksX6_forlorn_3 22 rfl rfl)
theorem dX6_forlorn_94 : decode cX6_forlorn 94 = .ok (.iload_n 2, 1) := dk_28 (dk_at dksX6_forlorn_3 23 rfl rfl)
theorem dX6_forlorn_95 : decode cX6_forlorn 95 = .ok (.ishl, 1) := dk_120 (dk_at dksX6_forlorn_4 0 rfl rfl)
theorem dX6_forlorn_96 : decode cX6_forlorn 96 = .ok (.goto 4, 3) := dk_167 0 4 (dk_at dksX6_forlorn_4 1 rfl rfl)
theorem dX6_forlorn_99 : decode cX6_forlorn 99 = .ok (.iconst 0, 1) := dk_3 (dk_at dksX6_forlorn_4 4 rfl rfl)
theorem dX6_forlorn_100 : decode cX6_forlorn 100 = .ok (.ior, 1) := dk_128 (dk_at dksX6_forlorn_4 5 rfl rfl)
theorem dX6_forlorn_101 : decode cX6_forlorn 101 = .ok (.istore_n 1, 1) := dk_60 (dk_at dksX6_forlorn_4 6 rfl rfl)
theorem dX6_forlorn_102 : decode cX6_forlorn 102 = .ok (.iinc 2 1, 3) := dk_132 2 1 (dk_at dksX6_forlorn_4 7 rfl rfl)
theorem dX6_forlorn_105 : decode cX6_forlorn 105 = .ok (.goto (-96), 3) := dk_167 255 160 (dk_at dksX6_forlorn_4 10 rfl rfl)
theorem dX6_forlorn_108 : decode cX6_forlorn 108 = .ok (.iload_n 1, 1) := dk_27 (dk_at dksX6_forlorn_4 13 rfl rfl)
theorem dX6_forlorn_109 : decode cX6_forlorn 109 = .ok (.ireturn, 1) := dk_172 (dk_at dksX6_forlorn_4 14 rfl rfl)
abbrev cX6_alike : ByteArray := prog_19_method_125_code
def yX6_alike : MethodName := ⟨RX6, "alike", "()I"⟩
def dkwX6_alike_2 : List UInt8 := [96, 60, 132, 3, 1, 167, 255, 226, 132, 2, 1, 167, 255, 206, 27, 172]
abbrev dktX6_alike_2 : List UInt8 := dkwX6_alike_2 ++ []
def dkwX6_alike_1 : List UInt8 := [42, 180, 0, 7, 6, 46, 162, 0, 26, 27, 42, 28, 29, 182, 1, 168, 153, 0, 7, 4, 167, 0, 4, 3]
abbrev dktX6_alike_1 : List UInt8 := dkwX6_alike_1 ++ dktX6_alike_2
def dkwX6_alike_0 : List UInt8 := [42, 3, 181, 0, 54, 3, 60, 3, 61, 28, 42, 180, 0, 7, 6, 46, 162, 0, 46, 28, 4, 96, 62, 29]
abbrev dktX6_alike_0 : List UInt8 := dkwX6_alike_0 ++ dktX6_alike_1
theorem dksX6_alike_0 : cX6_alike.data.toList.drop 0 = dktX6_alike_0 := by decide +kernel
theorem dksX6_alike_1 : cX6_alike.data.toList.drop 24 = dktX6_alike_1 := dk_seg dksX6_alike_0 24 rfl rfl
theorem dksX6_alike_2 : cX6_alike.data.toList.drop 48 = dktX6_alike_2 := dk_seg dksX6_alike_1 24 rfl rfl
theorem dX6_alike_0 : decode cX6_alike 0 = .ok (.aload_n 0, 1) := dk_42 (dk_at dksX6_alike_0 0 rfl rfl)
theorem dX6_alike_1 : decode cX6_alike 1 = .ok (.iconst 0, 1) := dk_3 (dk_at dksX6_alike_0 1 rfl rfl)
theorem dX6_alike_2 : decode cX6_alike 2 = .ok (.putfield 54, 3) := dk_181 0 54 (dk_at dksX6_alike_0 2 rfl rfl)
theorem dX6_alike_5 : decode cX6_alike 5 = .ok (.iconst 0, 1) := dk_3 (dk_at dksX6_alike_0 5 rfl rfl)
theorem dX6_alike_6 : decode cX6_alike 6 = .ok (.istore_n 1, 1) := dk_60 (dk_at dksX6_alike_0 6 rfl rfl)
theorem dX6_alike_7 : decode cX6_alike 7 = .ok (.iconst 0, 1) := dk_3 (dk_at dksX6_alike_0 7 rfl rfl)
theorem dX6_alike_8 : decode cX6_alike 8 = .ok (.istore_n 2, 1) := dk_61 (dk_at dksX6_alike_0 8 rfl rfl)
theorem dX6_alike_9 : decode cX6_alike 9 = .ok (.iload_n 2, 1) := dk_28 (dk_at dksX6_alike_0 9 rfl rfl)
theorem dX6_alike_10 : decode cX6_alike 10 = .ok (.aload_n 0, 1) := dk_42 (dk_at dksX6_alike_0 10 rfl rfl)
theorem dX6_alike_11 : decode cX6_alike 11 = .ok (.getfield 7, 3) := dk_180 0 7 (dk_at dksX6_alike_0 11 rfl rfl)
theorem dX6_alike_14 : decode cX6_alike 14 = .ok (.iconst 3, 1) := dk_6 (dk_at dksX6_alike_0 14 rfl rfl)
theorem dX6_alike_15 : decode cX6_alike 15 = .ok (.iaload, 1) := dk_46 (dk_at dksX6_alike_0 15 rfl rfl)
theorem dX6_alike_16 : decode cX6_alike 16 = .ok (.if_icmp .ge 46, 3) := dk_162 0 46 (dk_at dksX6_alike_0 16 rfl rfl)
theorem dX6_alike_19 : decode cX6_alike 19 = .ok (.iload_n 2, 1) := dk_28 (dk_at dksX6_alike_0 19 rfl rfl)
theorem dX6_alike_20 : decode cX6_alike 20 = .ok (.iconst 1, 1) := dk_4 (dk_at dksX6_alike_0 20 rfl rfl)
theorem dX6_alike_21 : decode cX6_alike 21 = .ok (.iadd, 1) := dk_96 (dk_at dksX6_alike_0 21 rfl rfl)
theorem dX6_alike_22 : decode cX6_alike 22 = .ok (.istore_n 3, 1) := dk_62 (dk_at dksX6_alike_0 22 rfl rfl)
theorem dX6_alike_23 : decode cX6_alike 23 = .ok (.iload_n 3, 1) := dk_29 (dk_at dksX6_alike_0 23 rfl rfl)
theorem dX6_alike_24 : decode cX6_alike 24 = .ok (.aload_n 0, 1) := dk_42 (dk_at dksX6_alike_1 0 rfl rfl)
theorem dX6_alike_25 : decode cX6_alike 25 = .ok (.getfield 7, 3) := dk_180 0 7 (dk_at dksX6_alike_1 1 rfl rfl)
theorem dX6_alike_28 : decode cX6_alike 28 = .ok (.iconst 3, 1) := dk_6 (dk_at dksX6_alike_1 4 rfl rfl)
theorem dX6_alike_29 : decode cX6_alike 29 = .ok (.iaload, 1) := dk_46 (dk_at dksX6_alike_1 5 rfl rfl)
theorem dX6_alike_30 : decode cX6_alike 30 = .ok (.if_icmp .ge 26, 3) := dk_162 0 26 (dk_at dksX6_alike_1 6 rfl rfl)
theorem dX6_alike_33 : decode cX6_alike 33 = .ok (.iload_n 1, 1) := dk_27 (dk_at dksX6_alike_1 9 rfl rfl)
theorem dX6_alike_34 : decode cX6_alike 34 = .ok (.aload_n 0, 1) := dk_42 (dk_at dksX6_alike_1 10 rfl rfl)
theorem dX6_alike_35 : decode cX6_alike 35 = .ok (.iload_n 2, 1) := dk_28 (dk_at dksX6_alike_1 11 rfl rfl)
theorem dX6_alike_36 : decode cX6_alike 36 = .ok (.iload_n 3, 1) := dk_29 (dk_at dksX6_alike_1 12 rfl rfl)
theorem dX6_alike_37 : decode cX6_alike 37 = .ok (.invokevirtual 424, 3) := dk_182 1 168 (dk_at dksX6_alike_1 13 rfl rfl)
theorem dX6_alike_40 : decode cX6_alike 40 = .ok (.ifCond .eq 7, 3) := dk_153 0 7 (dk_at dksX6_alike_1 16 rfl rfl)
theorem dX6_alike_43 : decode cX6_alike 43 = .ok (.iconst 1, 1) := dk_4 (dk_at dksX6_alike_1 19 rfl rfl)
theorem dX6_alike_44 : decode cX6_alike 44 = .ok (.goto 4, 3) := dk_167 0 4 (dk_at dksX6_alike_1 20 rfl rfl)
theorem dX6_alike_47 : decode cX6_alike 47 = .ok (.iconst 0, 1) := dk_3 (dk_at dksX6_alike_1 23 rfl rfl)
theorem dX6_alike_48 : decode cX6_alike 48 = .ok (.iadd, 1) := dk_96 (dk_at dksX6_alike_2 0 rfl rfl)
theorem dX6_alike_49 : decode cX6_alike 49 = .ok (.istore_n 1, 1) := dk_60 (dk_at dksX6_alike_2 1 rfl rfl)
theorem dX6_alike_50 : decode cX6_alike 50 = .ok (.iinc 3 1, 3) := dk_132 3 1 (dk_at dksX6_alike_2 2 rfl rfl)
theorem dX6_alike_53 : decode cX6_alike 53 = .ok (.goto (-30), 3) := dk_167 255 226 (dk_at dksX6_alike_2 5 rfl rfl)
theorem dX6_alike_56 : decode cX6_alike 56 = .ok (.iinc 2 1, 3) := dk_132 2 1 (dk_at dksX6_alike_2 8 rfl rfl)
theorem dX6_alike_59 : decode cX6_alike 59 = .ok (.goto (-50), 3) := dk_167 255 206 (dk_at dksX6_alike_2 11 rfl rfl)
theorem dX6_alike_62 : decode cX6_alike 62 = .ok (.iload_n 1, 1) := dk_27 (dk_at dksX6_alike_2 14 rfl rfl)
theorem dX6_alike_63 : decode cX6_alike 63 = .ok (.ireturn, 1) := dk_172 (dk_at dksX6_alike_2 15 rfl rfl)
abbrev cX6_areAlike : ByteArray := prog_19_method_124_code
def yX6_areAlike : MethodName := ⟨RX6, "areAlike", "(II)Z"⟩
def dkwX6_areAlike_2 : List UInt8 := [21, 4, 182, 0, 61, 160, 0, 7, 4, 167, 0, 4, 3, 62, 132, 4, 1, 167, 255, 215, 29, 172]
abbrev dktX6_areAlike_2 : List UInt8 := dkwX6_areAlike_2 ++ []
def dkwX6_areAlike_1 : List UInt8 := [21, 4, 42, 180, 0, 7, 7, 46, 162, 0, 36, 29, 153, 0, 32, 42, 27, 21, 4, 182, 0, 61, 42, 28]
abbrev dktX6_areAlike_1 : List UInt8 := dkwX6_areAlike_1 ++ dktX6_areAlike_2
def dkwX6_areAlike_0 : List UInt8 := [42, 27, 4, 182, 0, 68, 42, 28, 4, 182, 0, 68, 160, 0, 7, 4, 167, 0, 4, 3, 62, 3, 54, 4]
abbrev dktX6_areAlike_0 : List UInt8 := dkwX6_areAlike_0 ++ dktX6_areAlike_1
theorem dksX6_areAlike_0 : cX6_areAlike.data.toList.drop 0 = dktX6_areAlike_0 := by decide +kernel
theorem dksX6_areAlike_1 : cX6_areAlike.data.toList.drop 24 = dktX6_areAlike_1 := dk_seg dksX6_areAlike_0 24 rfl rfl
theorem dksX6_areAlike_2 : cX6_areAlike.data.toList.drop 48 = dktX6_areAlike_2 := dk_seg dksX6_areAlike_1 24 rfl rfl
theorem dX6_areAlike_0 : decode cX6_areAlike 0 = .ok (.aload_n 0, 1) := dk_42 (dk_at dksX6_areAlike_0 0 rfl rfl)
theorem dX6_areAlike_1 : decode cX6_areAlike 1 = .ok (.iload_n 1, 1) := dk_27 (dk_at dksX6_areAlike_0 1 rfl rfl)
theorem dX6_areAlike_2 : decode cX6_areAlike 2 = .ok (.iconst 1, 1) := dk_4 (dk_at dksX6_areAlike_0 2 rfl rfl)
theorem dX6_areAlike_3 : decode cX6_areAlike 3 = .ok (.invokevirtual 68, 3) := dk_182 0 68 (dk_at dksX6_areAlike_0 3 rfl rfl)
theorem dX6_areAlike_6 : decode cX6_areAlike 6 = .ok (.aload_n 0, 1) := dk_42 (dk_at dksX6_areAlike_0 6 rfl rfl)
theorem dX6_areAlike_7 : decode cX6_areAlike 7 = .ok (.iload_n 2, 1) := dk_28 (dk_at dksX6_areAlike_0 7 rfl rfl)
theorem dX6_areAlike_8 : decode cX6_areAlike 8 = .ok (.iconst 1, 1) := dk_4 (dk_at dksX6_areAlike_0 8 rfl rfl)
theorem dX6_areAlike_9 : decode cX6_areAlike 9 = .ok (.invokevirtual 68, 3) := dk_182 0 68 (dk_at dksX6_areAlike_0 9 rfl rfl)
theorem dX6_areAlike_12 : decode cX6_areAlike 12 = .ok (.if_icmp .ne 7, 3) := dk_160 0 7 (dk_at dksX6_areAlike_0 12 rfl rfl)
theorem dX6_areAlike_15 : decode cX6_areAlike 15 = .ok (.iconst 1, 1) := dk_4 (dk_at dksX6_areAlike_0 15 rfl rfl)
theorem dX6_areAlike_16 : decode cX6_areAlike 16 = .ok (.goto 4, 3) := dk_167 0 4 (dk_at dksX6_areAlike_0 16 rfl rfl)
theorem dX6_areAlike_19 : decode cX6_areAlike 19 = .ok (.iconst 0, 1) := dk_3 (dk_at dksX6_areAlike_0 19 rfl rfl)
theorem dX6_areAlike_20 : decode cX6_areAlike 20 = .ok (.istore_n 3, 1) := dk_62 (dk_at dksX6_areAlike_0 20 rfl rfl)
theorem dX6_areAlike_21 : decode cX6_areAlike 21 = .ok (.iconst 0, 1) := dk_3 (dk_at dksX6_areAlike_0 21 rfl rfl)
theorem dX6_areAlike_22 : decode cX6_areAlike 22 = .ok (.istore 4, 2) := dk_54 4 (dk_at dksX6_areAlike_0 22 rfl rfl)
theorem dX6_areAlike_24 : decode cX6_areAlike 24 = .ok (.iload 4, 2) := dk_21 4 (dk_at dksX6_areAlike_1 0 rfl rfl)
theorem dX6_areAlike_26 : decode cX6_areAlike 26 = .ok (.aload_n 0, 1) := dk_42 (dk_at dksX6_areAlike_1 2 rfl rfl)
theorem dX6_areAlike_27 : decode cX6_areAlike 27 = .ok (.getfield 7, 3) := dk_180 0 7 (dk_at dksX6_areAlike_1 3 rfl rfl)
theorem dX6_areAlike_30 : decode cX6_areAlike 30 = .ok (.iconst 4, 1) := dk_7 (dk_at dksX6_areAlike_1 6 rfl rfl)
theorem dX6_areAlike_31 : decode cX6_areAlike 31 = .ok (.iaload, 1) := dk_46 (dk_at dksX6_areAlike_1 7 rfl rfl)
theorem dX6_areAlike_32 : decode cX6_areAlike 32 = .ok (.if_icmp .ge 36, 3) := dk_162 0 36 (dk_at dksX6_areAlike_1 8 rfl rfl)
theorem dX6_areAlike_35 : decode cX6_areAlike 35 = .ok (.iload_n 3, 1) := dk_29 (dk_at dksX6_areAlike_1 11 rfl rfl)
theorem dX6_areAlike_36 : decode cX6_areAlike 36 = .ok (.ifCond .eq 32, 3) := dk_153 0 32 (dk_at dksX6_areAlike_1 12 rfl rfl)
theorem dX6_areAlike_39 : decode cX6_areAlike 39 = .ok (.aload_n 0, 1) := dk_42 (dk_at dksX6_areAlike_1 15 rfl rfl)
theorem dX6_areAlike_40 : decode cX6_areAlike 40 = .ok (.iload_n 1, 1) := dk_27 (dk_at dksX6_areAlike_1 16 rfl rfl)
theorem dX6_areAlike_41 : decode cX6_areAlike 41 = .ok (.iload 4, 2) := dk_21 4 (dk_at dksX6_areAlike_1 17 rfl rfl)
theorem dX6_areAlike_43 : decode cX6_areAlike 43 = .ok (.invokevirtual 61, 3) := dk_182 0 61 (dk_at dksX6_areAlike_1 19 rfl rfl)
theorem dX6_areAlike_46 : decode cX6_areAlike 46 = .ok (.aload_n 0, 1) := dk_42 (dk_at dksX6_areAlike_1 22 rfl rfl)
theorem dX6_areAlike_47 : decode cX6_areAlike 47 = .ok (.iload_n 2, 1) := dk_28 (dk_at dksX6_areAlike_1 23 rfl rfl)
theorem dX6_areAlike_48 : decode cX6_areAlike 48 = .ok (.iload 4, 2) := dk_21 4 (dk_at dksX6_areAlike_2 0 rfl rfl)
theorem dX6_areAlike_50 : decode cX6_areAlike 50 = .ok (.invokevirtual 61, 3) := dk_182 0 61 (dk_at dksX6_areAlike_2 2 rfl rfl)
theorem dX6_areAlike_53 : decode cX6_areAlike 53 = .ok (.if_icmp .ne 7, 3) := dk_160 0 7 (dk_at dksX6_areAlike_2 5 rfl rfl)
theorem dX6_areAlike_56 : decode cX6_areAlike 56 = .ok (.iconst 1, 1) := dk_4 (dk_at dksX6_areAlike_2 8 rfl rfl)
theorem dX6_areAlike_57 : decode cX6_areAlike 57 = .ok (.goto 4, 3) := dk_167 0 4 (dk_at dksX6_areAlike_2 9 rfl rfl)
theorem dX6_areAlike_60 : decode cX6_areAlike 60 = .ok (.iconst 0, 1) := dk_3 (dk_at dksX6_areAlike_2 12 rfl rfl)
theorem dX6_areAlike_61 : decode cX6_areAlike 61 = .ok (.istore_n 3, 1) := dk_62 (dk_at dksX6_areAlike_2 13 rfl rfl)
theorem dX6_areAlike_62 : decode cX6_areAlike 62 = .ok (.iinc 4 1, 3) := dk_132 4 1 (dk_at dksX6_areAlike_2 14 rfl rfl)
theorem dX6_areAlike_65 : decode cX6_areAlike 65 = .ok (.goto (-41), 3) := dk_167 255 215 (dk_at dksX6_areAlike_2 17 rfl rfl)
theorem dX6_areAlike_68 : decode cX6_areAlike 68 = .ok (.iload_n 3, 1) := dk_29 (dk_at dksX6_areAlike_2 20 rfl rfl)
theorem dX6_areAlike_69 : decode cX6_areAlike 69 = .ok (.ireturn, 1) := dk_172 (dk_at dksX6_areAlike_2 21 rfl rfl)
abbrev cX6_settle : ByteArray := prog_19_method_126_code
def yX6_settle : MethodName := ⟨RX6, "settle", "(I)I"⟩
def dkwX6_settle_3 : List UInt8 := [42, 182, 0, 202, 28, 172]
abbrev dktX6_settle_3 : List UInt8 := dkwX6_settle_3 ++ []
def dkwX6_settle_2 : List UInt8 := [182, 1, 91, 54, 4, 42, 180, 1, 38, 27, 184, 0, 74, 153, 0, 5, 29, 61, 132, 3, 1, 167, 255, 221]
abbrev dktX6_settle_2 : List UInt8 := dkwX6_settle_2 ++ dktX6_settle_3
def dkwX6_settle_1 : List UInt8 := [3, 172, 42, 182, 0, 192, 2, 61, 4, 62, 29, 16, 60, 163, 0, 35, 28, 2, 160, 0, 30, 42, 4, 3]
abbrev dktX6_settle_1 : List UInt8 := dkwX6_settle_1 ++ dktX6_settle_2
def dkwX6_settle_0 : List UInt8 := [42, 42, 27, 182, 1, 54, 154, 0, 7, 4, 167, 0, 4, 3, 181, 0, 54, 42, 180, 0, 54, 158, 0, 5]
abbrev dktX6_settle_0 : List UInt8 := dkwX6_settle_0 ++ dktX6_settle_1
theorem dksX6_settle_0 : cX6_settle.data.toList.drop 0 = dktX6_settle_0 := by decide +kernel
theorem dksX6_settle_1 : cX6_settle.data.toList.drop 24 = dktX6_settle_1 := dk_seg dksX6_settle_0 24 rfl rfl
theorem dksX6_settle_2 : cX6_settle.data.toList.drop 48 = dktX6_settle_2 := dk_seg dksX6_settle_1 24 rfl rfl
theorem dksX6_settle_3 : cX6_settle.data.toList.drop 72 = dktX6_settle_3 := dk_seg dksX6_settle_2 24 rfl rfl
theorem dX6_settle_0 : decode cX6_settle 0 = .ok (.aload_n 0, 1) := dk_42 (dk_at dksX6_settle_0 0 rfl rfl)
theorem dX6_settle_1 : decode cX6_settle 1 = .ok (.aload_n 0, 1) := dk_42 (dk_at dksX6_settle_0 1 rfl rfl)
theorem dX6_settle_2 : decode cX6_settle 2 = .ok (.iload_n 1, 1) := dk_27 (dk_at dksX6_settle_0 2 rfl rfl)
theorem dX6_settle_3 : decode cX6_settle 3 = .ok (.invokevirtual 310, 3) := dk_182 1 54 (dk_at dksX6_settle_0 3 rfl rfl)
theorem dX6_settle_6 : decode cX6_settle 6 = .ok (.ifCond .ne 7, 3) := dk_154 0 7 (dk_at dksX6_settle_0 6 rfl rfl)
theorem dX6_settle_9 : decode cX6_settle 9 = .ok (.iconst 1, 1) := dk_4 (dk_at dksX6_settle_0 9 rfl rfl)
theorem dX6_settle_10 : decode cX6_settle 10 = .ok (.goto 4, 3) := dk_167 0 4 (dk_at dksX6_settle_0 10 rfl rfl)
theorem dX6_settle_13 : decode cX6_settle 13 = .ok (.iconst 0, 1) := dk_3 (dk_at dksX6_settle_0 13 rfl rfl)
theorem dX6_settle_14 : decode cX6_settle 14 = .ok (.putfield 54, 3) := dk_181 0 54 (dk_at dksX6_settle_0 14 rfl rfl)
theorem dX6_settle_17 : decode cX6_settle 17 = .ok (.aload_n 0, 1) := dk_42 (dk_at dksX6_settle_0 17 rfl rfl)
theorem dX6_settle_18 : decode cX6_settle 18 = .ok (.getfield 54, 3) := dk_180 0 54 (dk_at dksX6_settle_0 18 rfl rfl)
theorem dX6_settle_21 : decode cX6_settle 21 = .ok (.ifCond .le 5, 3) := dk_158 0 5 (dk_at dksX6_settle_0 21 rfl rfl)
theorem dX6_settle_24 : decode cX6_settle 24 = .ok (.iconst 0, 1) := dk_3 (dk_at dksX6_settle_1 0 rfl rfl)
theorem dX6_settle_25 : decode cX6_settle 25 = .ok (.ireturn, 1) := dk_172 (dk_at dksX6_settle_1 1 rfl rfl)
theorem dX6_settle_26 : decode cX6_settle 26 = .ok (.aload_n 0, 1) := dk_42 (dk_at dksX6_settle_1 2 rfl rfl)
theorem dX6_settle_27 : decode cX6_settle 27 = .ok (.invokevirtual 192, 3) := dk_182 0 192 (dk_at dksX6_settle_1 3 rfl rfl)
theorem dX6_settle_30 : decode cX6_settle 30 = .ok (.iconst (-1), 1) := dk_2 (dk_at dksX6_settle_1 6 rfl rfl)
theorem dX6_settle_31 : decode cX6_settle 31 = .ok (.istore_n 2, 1) := dk_61 (dk_at dksX6_settle_1 7 rfl rfl)
theorem dX6_settle_32 : decode cX6_settle 32 = .ok (.iconst 1, 1) := dk_4 (dk_at dksX6_settle_1 8 rfl rfl)
theorem dX6_settle_33 : decode cX6_settle 33 = .ok (.istore_n 3, 1) := dk_62 (dk_at dksX6_settle_1 9 rfl rfl)
theorem dX6_settle_34 : decode cX6_settle 34 = .ok (.iload_n 3, 1) := dk_29 (dk_at dksX6_settle_1 10 rfl rfl)
theorem dX6_settle_35 : decode cX6_settle 35 = .ok (.bipush 60, 2) := dk_16 60 (dk_at dksX6_settle_1 11 rfl rfl)
theorem dX6_settle_37 : decode cX6_settle 37 = .ok (.if_icmp .gt 35, 3) := dk_163 0 35 (dk_at dksX6_settle_1 13 rfl rfl)
theorem dX6_settle_40 : decode cX6_settle 40 = .ok (.iload_n 2, 1) := dk_28 (dk_at dksX6_settle_1 16 rfl rfl)
theorem dX6_settle_41 : decode cX6_settle 41 = .ok (.iconst (-1), 1) := dk_2 (dk_at dksX6_settle_1 17 rfl rfl)
theorem dX6_settle_42 : decode cX6_settle 42 = .ok (.if_icmp .ne 30, 3) := dk_160 0 30 (dk_at dksX6_settle_1 18 rfl rfl)
theorem dX6_settle_45 : decode cX6_settle 45 = .ok (.aload_n 0, 1) := dk_42 (dk_at dksX6_settle_1 21 rfl rfl)
theorem dX6_settle_46 : decode cX6_settle 46 = .ok (.iconst 1, 1) := dk_4 (dk_at dksX6_settle_1 22 rfl rfl)
theorem dX6_settle_47 : decode cX6_settle 47 = .ok (.iconst 0, 1) := dk_3 (dk_at dksX6_settle_1 23 rfl rfl)
theorem dX6_settle_48 : decode cX6_settle 48 = .ok (.invokevirtual 347, 3) := dk_182 1 91 (dk_at dksX6_settle_2 0 rfl rfl)
theorem dX6_settle_51 : decode cX6_settle 51 = .ok (.istore 4, 2) := dk_54 4 (dk_at dksX6_settle_2 3 rfl rfl)
theorem dX6_settle_53 : decode cX6_settle 53 = .ok (.aload_n 0, 1) := dk_42 (dk_at dksX6_settle_2 5 rfl rfl)
theorem dX6_settle_54 : decode cX6_settle 54 = .ok (.getfield 294, 3) := dk_180 1 38 (dk_at dksX6_settle_2 6 rfl rfl)
theorem dX6_settle_57 : decode cX6_settle 57 = .ok (.iload_n 1, 1) := dk_27 (dk_at dksX6_settle_2 9 rfl rfl)
theorem dX6_settle_58 : decode cX6_settle 58 = .ok (.invokestatic 74, 3) := dk_184 0 74 (dk_at dksX6_settle_2 10 rfl rfl)
theorem dX6_settle_61 : decode cX6_settle 61 = .ok (.ifCond .eq 5, 3) := dk_153 0 5 (dk_at dksX6_settle_2 13 rfl rfl)
theorem dX6_settle_64 : decode cX6_settle 64 = .ok (.iload_n 3, 1) := dk_29 (dk_at dksX6_settle_2 16 rfl rfl)
theorem dX6_settle_65 : decode cX6_settle 65 = .ok (.istore_n 2, 1) := dk_61 (dk_at dksX6_settle_2 17 rfl rfl)
theorem dX6_settle_66 : decode cX6_settle 66 = .ok (.iinc 3 1, 3) := dk_132 3 1 (dk_at dksX6_settle_2 18 rfl rfl)
theorem dX6_settle_69 : decode cX6_settle 69 = .ok (.goto (-35), 3) := dk_167 255 221 (dk_at dksX6_settle_2 21 rfl rfl)
theorem dX6_settle_72 : decode cX6_settle 72 = .ok (.aload_n 0, 1) := dk_42 (dk_at dksX6_settle_3 0 rfl rfl)
theorem dX6_settle_73 : decode cX6_settle 73 = .ok (.invokevirtual 202, 3) := dk_182 0 202 (dk_at dksX6_settle_3 1 rfl rfl)
theorem dX6_settle_76 : decode cX6_settle 76 = .ok (.iload_n 2, 1) := dk_28 (dk_at dksX6_settle_3 4 rfl rfl)
theorem dX6_settle_77 : decode cX6_settle 77 = .ok (.ireturn, 1) := dk_172 (dk_at dksX6_settle_3 5 rfl rfl)
abbrev cX6_gladder : ByteArray := prog_19_method_127_code
def yX6_gladder : MethodName := ⟨RX6, "gladder", "(I)I"⟩
def dkwX6_gladder_2 : List UInt8 := [182, 1, 63, 54, 4, 42, 182, 0, 202, 21, 4, 28, 100, 172]
abbrev dktX6_gladder_2 : List UInt8 := dkwX6_gladder_2 ++ []
def dkwX6_gladder_1 : List UInt8 := [158, 0, 5, 3, 172, 42, 182, 1, 63, 61, 42, 182, 0, 192, 42, 27, 3, 182, 1, 91, 62, 42]
abbrev dktX6_gladder_1 : List UInt8 := dkwX6_gladder_1 ++ dktX6_gladder_2
def dkwX6_gladder_0 : List UInt8 := [42, 27, 3, 16, 60, 184, 0, 57, 154, 0, 7, 4, 167, 0, 4, 3, 181, 0, 54, 42, 180, 0, 54]
abbrev dktX6_gladder_0 : List UInt8 := dkwX6_gladder_0 ++ dktX6_gladder_1
theorem dksX6_gladder_0 : cX6_gladder.data.toList.drop 0 = dktX6_gladder_0 := by decide +kernel
theorem dksX6_gladder_1 : cX6_gladder.data.toList.drop 23 = dktX6_gladder_1 := dk_seg dksX6_gladder_0 23 rfl rfl
theorem dksX6_gladder_2 : cX6_gladder.data.toList.drop 45 = dktX6_gladder_2 := dk_seg dksX6_gladder_1 22 rfl rfl
theorem dX6_gladder_0 : decode cX6_gladder 0 = .ok (.aload_n 0, 1) := dk_42 (dk_at dksX6_gladder_0 0 rfl rfl)
theorem dX6_gladder_1 : decode cX6_gladder 1 = .ok (.iload_n 1, 1) := dk_27 (dk_at dksX6_gladder_0 1 rfl rfl)
theorem dX6_gladder_2 : decode cX6_gladder 2 = .ok (.iconst 0, 1) := dk_3 (dk_at dksX6_gladder_0 2 rfl rfl)
theorem dX6_gladder_3 : decode cX6_gladder 3 = .ok (.bipush 60, 2) := dk_16 60 (dk_at dksX6_gladder_0 3 rfl rfl)
theorem dX6_gladder_5 : decode cX6_gladder 5 = .ok (.invokestatic 57, 3) := dk_184 0 57 (dk_at dksX6_gladder_0 5 rfl rfl)
theorem dX6_gladder_8 : decode cX6_gladder 8 = .ok (.ifCond .ne 7, 3) := dk_154 0 7 (dk_at dksX6_gladder_0 8 rfl rfl)
theorem dX6_gladder_11 : decode cX6_gladder 11 = .ok (.iconst 1, 1) := dk_4 (dk_at dksX6_gladder_0 11 rfl rfl)
theorem dX6_gladder_12 : decode cX6_gladder 12 = .ok (.goto 4, 3) := dk_167 0 4 (dk_at dksX6_gladder_0 12 rfl rfl)
theorem dX6_gladder_15 : decode cX6_gladder 15 = .ok (.iconst 0, 1) := dk_3 (dk_at dksX6_gladder_0 15 rfl rfl)
theorem dX6_gladder_16 : decode cX6_gladder 16 = .ok (.putfield 54, 3) := dk_181 0 54 (dk_at dksX6_gladder_0 16 rfl rfl)
theorem dX6_gladder_19 : decode cX6_gladder 19 = .ok (.aload_n 0, 1) := dk_42 (dk_at dksX6_gladder_0 19 rfl rfl)
theorem dX6_gladder_20 : decode cX6_gladder 20 = .ok (.getfield 54, 3) := dk_180 0 54 (dk_at dksX6_gladder_0 20 rfl rfl)
theorem dX6_gladder_23 : decode cX6_gladder 23 = .ok (.ifCond .le 5, 3) := dk_158 0 5 (dk_at dksX6_gladder_1 0 rfl rfl)
theorem dX6_gladder_26 : decode cX6_gladder 26 = .ok (.iconst 0, 1) := dk_3 (dk_at dksX6_gladder_1 3 rfl rfl)
theorem dX6_gladder_27 : decode cX6_gladder 27 = .ok (.ireturn, 1) := dk_172 (dk_at dksX6_gladder_1 4 rfl rfl)
theorem dX6_gladder_28 : decode cX6_gladder 28 = .ok (.aload_n 0, 1) := dk_42 (dk_at dksX6_gladder_1 5 rfl rfl)
theorem dX6_gladder_29 : decode cX6_gladder 29 = .ok (.invokevirtual 319, 3) := dk_182 1 63 (dk_at dksX6_gladder_1 6 rfl rfl)
theorem dX6_gladder_32 : decode cX6_gladder 32 = .ok (.istore_n 2, 1) := dk_61 (dk_at dksX6_gladder_1 9 rfl rfl)
theorem dX6_gladder_33 : decode cX6_gladder 33 = .ok (.aload_n 0, 1) := dk_42 (dk_at dksX6_gladder_1 10 rfl rfl)
theorem dX6_gladder_34 : decode cX6_gladder 34 = .ok (.invokevirtual 192, 3) := dk_182 0 192 (dk_at dksX6_gladder_1 11 rfl rfl)
theorem dX6_gladder_37 : decode cX6_gladder 37 = .ok (.aload_n 0, 1) := dk_42 (dk_at dksX6_gladder_1 14 rfl rfl)
theorem dX6_gladder_38 : decode cX6_gladder 38 = .ok (.iload_n 1, 1) := dk_27 (dk_at dksX6_gladder_1 15 rfl rfl)
theorem dX6_gladder_39 : decode cX6_gladder 39 = .ok (.iconst 0, 1) := dk_3 (dk_at dksX6_gladder_1 16 rfl rfl)
theorem dX6_gladder_40 : decode cX6_gladder 40 = .ok (.invokevirtual 347, 3) := dk_182 1 91 (dk_at dksX6_gladder_1 17 rfl rfl)
theorem dX6_gladder_43 : decode cX6_gladder 43 = .ok (.istore_n 3, 1) := dk_62 (dk_at dksX6_gladder_1 20 rfl rfl)
theorem dX6_gladder_44 : decode cX6_gladder 44 = .ok (.aload_n 0, 1) := dk_42 (dk_at dksX6_gladder_1 21 rfl rfl)
theorem dX6_gladder_45 : decode cX6_gladder 45 = .ok (.invokevirtual 319, 3) := dk_182 1 63 (dk_at dksX6_gladder_2 0 rfl rfl)
theorem dX6_gladder_48 : decode cX6_gladder 48 = .ok (.istore 4, 2) := dk_54 4 (dk_at dksX6_gladder_2 3 rfl rfl)
theorem dX6_gladder_50 : decode cX6_gladder 50 = .ok (.aload_n 0, 1) := dk_42 (dk_at dksX6_gladder_2 5 rfl rfl)
theorem dX6_gladder_51 : decode cX6_gladder 51 = .ok (.invokevirtual 202, 3) := dk_182 0 202 (dk_at dksX6_gladder_2 6 rfl rfl)
theorem dX6_gladder_54 : decode cX6_gladder 54 = .ok (.iload 4, 2) := dk_21 4 (dk_at dksX6_gladder_2 9 rfl rfl)
theorem dX6_gladder_56 : decode cX6_gladder 56 = .ok (.iload_n 2, 1) := dk_28 (dk_at dksX6_gladder_2 11 rfl rfl)
theorem dX6_gladder_57 : decode cX6_gladder 57 = .ok (.isub, 1) := dk_100 (dk_at dksX6_gladder_2 12 rfl rfl)
theorem dX6_gladder_58 : decode cX6_gladder 58 = .ok (.ireturn, 1) := dk_172 (dk_at dksX6_gladder_2 13 rfl rfl)
abbrev cX6_ahead : ByteArray := prog_19_method_128_code
def yX6_ahead : MethodName := ⟨RX6, "ahead", "(III)I"⟩
def dkwX6_ahead_3 : List UInt8 := [182, 0, 68, 54, 5, 42, 182, 0, 202, 21, 5, 172]
abbrev dktX6_ahead_3 : List UInt8 := dkwX6_ahead_3 ++ []
def dkwX6_ahead_2 : List UInt8 := [158, 0, 5, 3, 172, 42, 182, 0, 192, 42, 28, 3, 182, 1, 91, 54, 4, 42, 27, 5, 29, 96]
abbrev dktX6_ahead_2 : List UInt8 := dkwX6_ahead_2 ++ dktX6_ahead_3
def dkwX6_ahead_1 : List UInt8 := [167, 0, 17, 29, 3, 4, 184, 0, 57, 154, 0, 7, 6, 167, 0, 4, 3, 181, 0, 54, 42, 180, 0, 54]
abbrev dktX6_ahead_1 : List UInt8 := dkwX6_ahead_1 ++ dktX6_ahead_2
def dkwX6_ahead_0 : List UInt8 := [42, 42, 27, 182, 1, 54, 154, 0, 7, 4, 167, 0, 31, 28, 3, 16, 60, 184, 0, 57, 154, 0, 7, 5]
abbrev dktX6_ahead_0 : List UInt8 := dkwX6_ahead_0 ++ dktX6_ahead_1
theorem dksX6_ahead_0 : cX6_ahead.data.toList.drop 0 = dktX6_ahead_0 := by decide +kernel
theorem dksX6_ahead_1 : cX6_ahead.data.toList.drop 24 = dktX6_ahead_1 := dk_seg dksX6_ahead_0 24 rfl rfl
theorem dksX6_ahead_2 : cX6_ahead.data.toList.drop 48 = dktX6_ahead_2 := dk_seg dksX6_ahead_1 24 rfl rfl
theorem dksX6_ahead_3 : cX6_ahead.data.toList.drop 70 = dktX6_ahead_3 := dk_seg dksX6_ahead_2 22 rfl rfl
theorem dX6_ahead_0 : decode cX6_ahead 0 = .ok (.aload_n 0, 1) := dk_42 (dk_at dksX6_ahead_0 0 rfl rfl)
theorem dX6_ahead_1 : decode cX6_ahead 1 = .ok (.aload_n 0, 1) := dk_42 (dk_at dksX6_ahead_0 1 rfl rfl)
theorem dX6_ahead_2 : decode cX6_ahead 2 = .ok (.iload_n 1, 1) := dk_27 (dk_at dksX6_ahead_0 2 rfl rfl)
theorem dX6_ahead_3 : decode cX6_ahead 3 = .ok (.invokevirtual 310, 3) := dk_182 1 54 (dk_at dksX6_ahead_0 3 rfl rfl)
theorem dX6_ahead_6 : decode cX6_ahead 6 = .ok (.ifCond .ne 7, 3) := dk_154 0 7 (dk_at dksX6_ahead_0 6 rfl rfl)
theorem dX6_ahead_9 : decode cX6_ahead 9 = .ok (.iconst 1, 1) := dk_4 (dk_at dksX6_ahead_0 9 rfl rfl)
theorem dX6_ahead_10 : decode cX6_ahead 10 = .ok (.goto 31, 3) := dk_167 0 31 (dk_at dksX6_ahead_0 10 rfl rfl)
theorem dX6_ahead_13 : decode cX6_ahead 13 = .ok (.iload_n 2, 1) := dk_28 (dk_at dksX6_ahead_0 13 rfl rfl)
theorem dX6_ahead_14 : decode cX6_ahead 14 = .ok (.iconst 0, 1) := dk_3 (dk_at dksX6_ahead_0 14 rfl rfl)
theorem dX6_ahead_15 : decode cX6_ahead 15 = .ok (.bipush 60, 2) := dk_16 60 (dk_at dksX6_ahead_0 15 rfl rfl)
theorem dX6_ahead_17 : decode cX6_ahead 17 = .ok (.invokestatic 57, 3) := dk_184 0 57 (dk_at dksX6_ahead_0 17 rfl rfl)
theorem dX6_ahead_20 : decode cX6_ahead 20 = .ok (.ifCond .ne 7, 3) := dk_154 0 7 (dk_at dksX6_ahead_0 20 rfl rfl)
theorem dX6_ahead_23 : decode cX6_ahead 23 = .ok (.iconst 2, 1) := dk_5 (dk_at dksX6_ahead_0 23 rfl rfl)
theorem dX6_ahead_24 : decode cX6_ahead 24 = .ok (.goto 17, 3) := dk_167 0 17 (dk_at dksX6_ahead_1 0 rfl rfl)
theorem dX6_ahead_27 : decode cX6_ahead 27 = .ok (.iload_n 3, 1) := dk_29 (dk_at dksX6_ahead_1 3 rfl rfl)
theorem dX6_ahead_28 : decode cX6_ahead 28 = .ok (.iconst 0, 1) := dk_3 (dk_at dksX6_ahead_1 4 rfl rfl)
theorem dX6_ahead_29 : decode cX6_ahead 29 = .ok (.iconst 1, 1) := dk_4 (dk_at dksX6_ahead_1 5 rfl rfl)
theorem dX6_ahead_30 : decode cX6_ahead 30 = .ok (.invokestatic 57, 3) := dk_184 0 57 (dk_at dksX6_ahead_1 6 rfl rfl)
theorem dX6_ahead_33 : decode cX6_ahead 33 = .ok (.ifCond .ne 7, 3) := dk_154 0 7 (dk_at dksX6_ahead_1 9 rfl rfl)
theorem dX6_ahead_36 : decode cX6_ahead 36 = .ok (.iconst 3, 1) := dk_6 (dk_at dksX6_ahead_1 12 rfl rfl)
theorem dX6_ahead_37 : decode cX6_ahead 37 = .ok (.goto 4, 3) := dk_167 0 4 (dk_at dksX6_ahead_1 13 rfl rfl)
theorem dX6_ahead_40 : decode cX6_ahead 40 = .ok (.iconst 0, 1) := dk_3 (dk_at dksX6_ahead_1 16 rfl rfl)
theorem dX6_ahead_41 : decode cX6_ahead 41 = .ok (.putfield 54, 3) := dk_181 0 54 (dk_at dksX6_ahead_1 17 rfl rfl)
theorem dX6_ahead_44 : decode cX6_ahead 44 = .ok (.aload_n 0, 1) := dk_42 (dk_at dksX6_ahead_1 20 rfl rfl)
theorem dX6_ahead_45 : decode cX6_ahead 45 = .ok (.getfield 54, 3) := dk_180 0 54 (dk_at dksX6_ahead_1 21 rfl rfl)
theorem dX6_ahead_48 : decode cX6_ahead 48 = .ok (.ifCond .le 5, 3) := dk_158 0 5 (dk_at dksX6_ahead_2 0 rfl rfl)
theorem dX6_ahead_51 : decode cX6_ahead 51 = .ok (.iconst 0, 1) := dk_3 (dk_at dksX6_ahead_2 3 rfl rfl)
theorem dX6_ahead_52 : decode cX6_ahead 52 = .ok (.ireturn, 1) := dk_172 (dk_at dksX6_ahead_2 4 rfl rfl)
theorem dX6_ahead_53 : decode cX6_ahead 53 = .ok (.aload_n 0, 1) := dk_42 (dk_at dksX6_ahead_2 5 rfl rfl)
theorem dX6_ahead_54 : decode cX6_ahead 54 = .ok (.invokevirtual 192, 3) := dk_182 0 192 (dk_at dksX6_ahead_2 6 rfl rfl)
theorem dX6_ahead_57 : decode cX6_ahead 57 = .ok (.aload_n 0, 1) := dk_42 (dk_at dksX6_ahead_2 9 rfl rfl)
theorem dX6_ahead_58 : decode cX6_ahead 58 = .ok (.iload_n 2, 1) := dk_28 (dk_at dksX6_ahead_2 10 rfl rfl)
theorem dX6_ahead_59 : decode cX6_ahead 59 = .ok (.iconst 0, 1) := dk_3 (dk_at dksX6_ahead_2 11 rfl rfl)
theorem dX6_ahead_60 : decode cX6_ahead 60 = .ok (.invokevirtual 347, 3) := dk_182 1 91 (dk_at dksX6_ahead_2 12 rfl rfl)
theorem dX6_ahead_63 : decode cX6_ahead 63 = .ok (.istore 4, 2) := dk_54 4 (dk_at dksX6_ahead_2 15 rfl rfl)
theorem dX6_ahead_65 : decode cX6_ahead 65 = .ok (.aload_n 0, 1) := dk_42 (dk_at dksX6_ahead_2 17 rfl rfl)
theorem dX6_ahead_66 : decode cX6_ahead 66 = .ok (.iload_n 1, 1) := dk_27 (dk_at dksX6_ahead_2 18 rfl rfl)
theorem dX6_ahead_67 : decode cX6_ahead 67 = .ok (.iconst 2, 1) := dk_5 (dk_at dksX6_ahead_2 19 rfl rfl)
theorem dX6_ahead_68 : decode cX6_ahead 68 = .ok (.iload_n 3, 1) := dk_29 (dk_at dksX6_ahead_2 20 rfl rfl)
theorem dX6_ahead_69 : decode cX6_ahead 69 = .ok (.iadd, 1) := dk_96 (dk_at dksX6_ahead_2 21 rfl rfl)
theorem dX6_ahead_70 : decode cX6_ahead 70 = .ok (.invokevirtual 68, 3) := dk_182 0 68 (dk_at dksX6_ahead_3 0 rfl rfl)
theorem dX6_ahead_73 : decode cX6_ahead 73 = .ok (.istore 5, 2) := dk_54 5 (dk_at dksX6_ahead_3 3 rfl rfl)
theorem dX6_ahead_75 : decode cX6_ahead 75 = .ok (.aload_n 0, 1) := dk_42 (dk_at dksX6_ahead_3 5 rfl rfl)
theorem dX6_ahead_76 : decode cX6_ahead 76 = .ok (.invokevirtual 202, 3) := dk_182 0 202 (dk_at dksX6_ahead_3 6 rfl rfl)
theorem dX6_ahead_79 : decode cX6_ahead 79 = .ok (.iload 5, 2) := dk_21 5 (dk_at dksX6_ahead_3 9 rfl rfl)
theorem dX6_ahead_81 : decode cX6_ahead 81 = .ok (.ireturn, 1) := dk_172 (dk_at dksX6_ahead_3 11 rfl rfl)
abbrev cX6_trial : ByteArray := prog_19_method_129_code
def yX6_trial : MethodName := ⟨RX6, "trial", "(IZ)I"⟩
def dkwX6_trial_2 : List UInt8 := [167, 0, 7, 42, 182, 1, 63, 54, 4, 42, 182, 0, 202, 21, 4, 172]
abbrev dktX6_trial_2 : List UInt8 := dkwX6_trial_2 ++ []
def dkwX6_trial_1 : List UInt8 := [158, 0, 5, 3, 172, 42, 182, 0, 192, 42, 27, 4, 182, 1, 91, 62, 28, 153, 0, 10, 42, 180, 1, 38]
abbrev dktX6_trial_1 : List UInt8 := dkwX6_trial_1 ++ dktX6_trial_2
def dkwX6_trial_0 : List UInt8 := [42, 27, 3, 16, 60, 184, 0, 57, 154, 0, 7, 4, 167, 0, 4, 3, 181, 0, 54, 42, 180, 0, 54]
abbrev dktX6_trial_0 : List UInt8 := dkwX6_trial_0 ++ dktX6_trial_1
theorem dksX6_trial_0 : cX6_trial.data.toList.drop 0 = dktX6_trial_0 := by decide +kernel
theorem dksX6_trial_1 : cX6_trial.data.toList.drop 23 = dktX6_trial_1 := dk_seg dksX6_trial_0 23 rfl rfl
theorem dksX6_trial_2 : cX6_trial.data.toList.drop 47 = dktX6_trial_2 := dk_seg dksX6_trial_1 24 rfl rfl
theorem dX6_trial_0 : decode cX6_trial 0 = .ok (.aload_n 0, 1) := dk_42 (dk_at dksX6_trial_0 0 rfl rfl)
theorem dX6_trial_1 : decode cX6_trial 1 = .ok (.iload_n 1, 1) := dk_27 (dk_at dksX6_trial_0 1 rfl rfl)
theorem dX6_trial_2 : decode cX6_trial 2 = .ok (.iconst 0, 1) := dk_3 (dk_at dksX6_trial_0 2 rfl rfl)
theorem dX6_trial_3 : decode cX6_trial 3 = .ok (.bipush 60, 2) := dk_16 60 (dk_at dksX6_trial_0 3 rfl rfl)
theorem dX6_trial_5 : decode cX6_trial 5 = .ok (.invokestatic 57, 3) := dk_184 0 57 (dk_at dksX6_trial_0 5 rfl rfl)
theorem dX6_trial_8 : decode cX6_trial 8 = .ok (.ifCond .ne 7, 3) := dk_154 0 7 (dk_at dksX6_trial_0 8 rfl rfl)
theorem dX6_trial_11 : decode cX6_trial 11 = .ok (.iconst 1, 1) := dk_4 (dk_at dksX6_trial_0 11 rfl rfl)
theorem dX6_trial_12 : decode cX6_trial 12 = .ok (.goto 4, 3) := dk_167 0 4 (dk_at dksX6_trial_0 12 rfl rfl)
theorem dX6_trial_15 : decode cX6_trial 15 = .ok (.iconst 0, 1) := dk_3 (dk_at dksX6_trial_0 15 rfl rfl)
theorem dX6_trial_16 : decode cX6_trial 16 = .ok (.putfield 54, 3) := dk_181 0 54 (dk_at dksX6_trial_0 16 rfl rfl)
theorem dX6_trial_19 : decode cX6_trial 19 = .ok (.aload_n 0, 1) := dk_42 (dk_at dksX6_trial_0 19 rfl rfl)
theorem dX6_trial_20 : decode cX6_trial 20 = .ok (.getfield 54, 3) := dk_180 0 54 (dk_at dksX6_trial_0 20 rfl rfl)
theorem dX6_trial_23 : decode cX6_trial 23 = .ok (.ifCond .le 5, 3) := dk_158 0 5 (dk_at dksX6_trial_1 0 rfl rfl)
theorem dX6_trial_26 : decode cX6_trial 26 = .ok (.iconst 0, 1) := dk_3 (dk_at dksX6_trial_1 3 rfl rfl)
theorem dX6_trial_27 : decode cX6_trial 27 = .ok (.ireturn, 1) := dk_172 (dk_at dksX6_trial_1 4 rfl rfl)
theorem dX6_trial_28 : decode cX6_trial 28 = .ok (.aload_n 0, 1) := dk_42 (dk_at dksX6_trial_1 5 rfl rfl)
theorem dX6_trial_29 : decode cX6_trial 29 = .ok (.invokevirtual 192, 3) := dk_182 0 192 (dk_at dksX6_trial_1 6 rfl rfl)
theorem dX6_trial_32 : decode cX6_trial 32 = .ok (.aload_n 0, 1) := dk_42 (dk_at dksX6_trial_1 9 rfl rfl)
theorem dX6_trial_33 : decode cX6_trial 33 = .ok (.iload_n 1, 1) := dk_27 (dk_at dksX6_trial_1 10 rfl rfl)
theorem dX6_trial_34 : decode cX6_trial 34 = .ok (.iconst 1, 1) := dk_4 (dk_at dksX6_trial_1 11 rfl rfl)
theorem dX6_trial_35 : decode cX6_trial 35 = .ok (.invokevirtual 347, 3) := dk_182 1 91 (dk_at dksX6_trial_1 12 rfl rfl)
theorem dX6_trial_38 : decode cX6_trial 38 = .ok (.istore_n 3, 1) := dk_62 (dk_at dksX6_trial_1 15 rfl rfl)
theorem dX6_trial_39 : decode cX6_trial 39 = .ok (.iload_n 2, 1) := dk_28 (dk_at dksX6_trial_1 16 rfl rfl)
theorem dX6_trial_40 : decode cX6_trial 40 = .ok (.ifCond .eq 10, 3) := dk_153 0 10 (dk_at dksX6_trial_1 17 rfl rfl)
theorem dX6_trial_43 : decode cX6_trial 43 = .ok (.aload_n 0, 1) := dk_42 (dk_at dksX6_trial_1 20 rfl rfl)
theorem dX6_trial_44 : decode cX6_trial 44 = .ok (.getfield 294, 3) := dk_180 1 38 (dk_at dksX6_trial_1 21 rfl rfl)
theorem dX6_trial_47 : decode cX6_trial 47 = .ok (.goto 7, 3) := dk_167 0 7 (dk_at dksX6_trial_2 0 rfl rfl)
theorem dX6_trial_50 : decode cX6_trial 50 = .ok (.aload_n 0, 1) := dk_42 (dk_at dksX6_trial_2 3 rfl rfl)
theorem dX6_trial_51 : decode cX6_trial 51 = .ok (.invokevirtual 319, 3) := dk_182 1 63 (dk_at dksX6_trial_2 4 rfl rfl)
theorem dX6_trial_54 : decode cX6_trial 54 = .ok (.istore 4, 2) := dk_54 4 (dk_at dksX6_trial_2 7 rfl rfl)
theorem dX6_trial_56 : decode cX6_trial 56 = .ok (.aload_n 0, 1) := dk_42 (dk_at dksX6_trial_2 9 rfl rfl)
theorem dX6_trial_57 : decode cX6_trial 57 = .ok (.invokevirtual 202, 3) := dk_182 0 202 (dk_at dksX6_trial_2 10 rfl rfl)
theorem dX6_trial_60 : decode cX6_trial 60 = .ok (.iload 4, 2) := dk_21 4 (dk_at dksX6_trial_2 13 rfl rfl)
theorem dX6_trial_62 : decode cX6_trial 62 = .ok (.ireturn, 1) := dk_172 (dk_at dksX6_trial_2 15 rfl rfl)
abbrev cX6_span : ByteArray := prog_19_method_130_code
def yX6_span : MethodName := ⟨RX6, "span", "(IZ)I"⟩
def dkwX6_span_4 : List UInt8 := [167, 0, 9, 29, 21, 6, 184, 0, 124, 62, 132, 4, 1, 167, 255, 189, 29, 172]
abbrev dktX6_span_4 : List UInt8 := dkwX6_span_4 ++ []
def dkwX6_span_3 : List UInt8 := [182, 0, 202, 29, 2, 160, 0, 8, 21, 6, 167, 0, 22, 28, 153, 0, 12, 29, 21, 6, 184, 1, 21]
abbrev dktX6_span_3 : List UInt8 := dkwX6_span_3 ++ dktX6_span_4
def dkwX6_span_2 : List UInt8 := [180, 0, 7, 16, 10, 21, 4, 79, 42, 27, 4, 182, 1, 91, 54, 5, 42, 182, 1, 63, 54, 6, 42]
abbrev dktX6_span_2 : List UInt8 := dkwX6_span_2 ++ dktX6_span_3
def dkwX6_span_1 : List UInt8 := [158, 0, 5, 3, 172, 42, 182, 0, 192, 2, 62, 4, 54, 4, 21, 4, 16, 6, 163, 0, 66, 42]
abbrev dktX6_span_1 : List UInt8 := dkwX6_span_1 ++ dktX6_span_2
def dkwX6_span_0 : List UInt8 := [42, 27, 3, 16, 60, 184, 0, 57, 154, 0, 7, 4, 167, 0, 4, 3, 181, 0, 54, 42, 180, 0, 54]
abbrev dktX6_span_0 : List UInt8 := dkwX6_span_0 ++ dktX6_span_1
theorem dksX6_span_0 : cX6_span.data.toList.drop 0 = dktX6_span_0 := by decide +kernel
theorem dksX6_span_1 : cX6_span.data.toList.drop 23 = dktX6_span_1 := dk_seg dksX6_span_0 23 rfl rfl
theorem dksX6_span_2 : cX6_span.data.toList.drop 45 = dktX6_span_2 := dk_seg dksX6_span_1 22 rfl rfl
theorem dksX6_span_3 : cX6_span.data.toList.drop 68 = dktX6_span_3 := dk_seg dksX6_span_2 23 rfl rfl
theorem dksX6_span_4 : cX6_span.data.toList.drop 91 = dktX6_span_4 := dk_seg dksX6_span_3 23 rfl rfl
theorem dX6_span_0 : decode cX6_span 0 = .ok (.aload_n 0, 1) := dk_42 (dk_at dksX6_span_0 0 rfl rfl)
theorem dX6_span_1 : decode cX6_span 1 = .ok (.iload_n 1, 1) := dk_27 (dk_at dksX6_span_0 1 rfl rfl)
theorem dX6_span_2 : decode cX6_span 2 = .ok (.iconst 0, 1) := dk_3 (dk_at dksX6_span_0 2 rfl rfl)
theorem dX6_span_3 : decode cX6_span 3 = .ok (.bipush 60, 2) := dk_16 60 (dk_at dksX6_span_0 3 rfl rfl)
theorem dX6_span_5 : decode cX6_span 5 = .ok (.invokestatic 57, 3) := dk_184 0 57 (dk_at dksX6_span_0 5 rfl rfl)
theorem dX6_span_8 : decode cX6_span 8 = .ok (.ifCond .ne 7, 3) := dk_154 0 7 (dk_at dksX6_span_0 8 rfl rfl)
theorem dX6_span_11 : decode cX6_span 11 = .ok (.iconst 1, 1) := dk_4 (dk_at dksX6_span_0 11 rfl rfl)
theorem dX6_span_12 : decode cX6_span 12 = .ok (.goto 4, 3) := dk_167 0 4 (dk_at dksX6_span_0 12 rfl rfl)
theorem dX6_span_15 : decode cX6_span 15 = .ok (.iconst 0, 1) := dk_3 (dk_at dksX6_span_0 15 rfl rfl)
theorem dX6_span_16 : decode cX6_span 16 = .ok (.putfield 54, 3) := dk_181 0 54 (dk_at dksX6_span_0 16 rfl rfl)
theorem dX6_span_19 : decode cX6_span 19 = .ok (.aload_n 0, 1) := dk_42 (dk_at dksX6_span_0 19 rfl rfl)
theorem dX6_span_20 : decode cX6_span 20 = .ok (.getfield 54, 3) := dk_180 0 54 (dk_at dksX6_span_0 20 rfl rfl)
theorem dX6_span_23 : decode cX6_span 23 = .ok (.ifCond .le 5, 3) := dk_158 0 5 (dk_at dksX6_span_1 0 rfl rfl)
theorem dX6_span_26 : decode cX6_span 26 = .ok (.iconst 0, 1) := dk_3 (dk_at dksX6_span_1 3 rfl rfl)
theorem dX6_span_27 : decode cX6_span 27 = .ok (.ireturn, 1) := dk_172 (dk_at dksX6_span_1 4 rfl rfl)
theorem dX6_span_28 : decode cX6_span 28 = .ok (.aload_n 0, 1) := dk_42 (dk_at dksX6_span_1 5 rfl rfl)
theorem dX6_span_29 : decode cX6_span 29 = .ok (.invokevirtual 192, 3) := dk_182 0 192 (dk_at dksX6_span_1 6 rfl rfl)
theorem dX6_span_32 : decode cX6_span 32 = .ok (.iconst (-1), 1) := dk_2 (dk_at dksX6_span_1 9 rfl rfl)
theorem dX6_span_33 : decode cX6_span 33 = .ok (.istore_n 3, 1) := dk_62 (dk_at dksX6_span_1 10 rfl rfl)
theorem dX6_span_34 : decode cX6_span 34 = .ok (.iconst 1, 1) := dk_4 (dk_at dksX6_span_1 11 rfl rfl)
theorem dX6_span_35 : decode cX6_span 35 = .ok (.istore 4, 2) := dk_54 4 (dk_at dksX6_span_1 12 rfl rfl)
theorem dX6_span_37 : decode cX6_span 37 = .ok (.iload 4, 2) := dk_21 4 (dk_at dksX6_span_1 14 rfl rfl)
theorem dX6_span_39 : decode cX6_span 39 = .ok (.bipush 6, 2) := dk_16 6 (dk_at dksX6_span_1 16 rfl rfl)
theorem dX6_span_41 : decode cX6_span 41 = .ok (.if_icmp .gt 66, 3) := dk_163 0 66 (dk_at dksX6_span_1 18 rfl rfl)
theorem dX6_span_44 : decode cX6_span 44 = .ok (.aload_n 0, 1) := dk_42 (dk_at dksX6_span_1 21 rfl rfl)
theorem dX6_span_45 : decode cX6_span 45 = .ok (.getfield 7, 3) := dk_180 0 7 (dk_at dksX6_span_2 0 rfl rfl)
theorem dX6_span_48 : decode cX6_span 48 = .ok (.bipush 10, 2) := dk_16 10 (dk_at dksX6_span_2 3 rfl rfl)
theorem dX6_span_50 : decode cX6_span 50 = .ok (.iload 4, 2) := dk_21 4 (dk_at dksX6_span_2 5 rfl rfl)
theorem dX6_span_52 : decode cX6_span 52 = .ok (.iastore, 1) := dk_79 (dk_at dksX6_span_2 7 rfl rfl)
theorem dX6_span_53 : decode cX6_span 53 = .ok (.aload_n 0, 1) := dk_42 (dk_at dksX6_span_2 8 rfl rfl)
theorem dX6_span_54 : decode cX6_span 54 = .ok (.iload_n 1, 1) := dk_27 (dk_at dksX6_span_2 9 rfl rfl)
theorem dX6_span_55 : decode cX6_span 55 = .ok (.iconst 1, 1) := dk_4 (dk_at dksX6_span_2 10 rfl rfl)
theorem dX6_span_56 : decode cX6_span 56 = .ok (.invokevirtual 347, 3) := dk_182 1 91 (dk_at dksX6_span_2 11 rfl rfl)
theorem dX6_span_59 : decode cX6_span 59 = .ok (.istore 5, 2) := dk_54 5 (dk_at dksX6_span_2 14 rfl rfl)
theorem dX6_span_61 : decode cX6_span 61 = .ok (.aload_n 0, 1) := dk_42 (dk_at dksX6_span_2 16 rfl rfl)
theorem dX6_span_62 : decode cX6_span 62 = .ok (.invokevirtual 319, 3) := dk_182 1 63 (dk_at dksX6_span_2 17 rfl rfl)
theorem dX6_span_65 : decode cX6_span 65 = .ok (.istore 6, 2) := dk_54 6 (dk_at dksX6_span_2 20 rfl rfl)
theorem dX6_span_67 : decode cX6_span 67 = .ok (.aload_n 0, 1) := dk_42 (dk_at dksX6_span_2 22 rfl rfl)
theorem dX6_span_68 : decode cX6_span 68 = .ok (.invokevirtual 202, 3) := dk_182 0 202 (dk_at dksX6_span_3 0 rfl rfl)
theorem dX6_span_71 : decode cX6_span 71 = .ok (.iload_n 3, 1) := dk_29 (dk_at dksX6_span_3 3 rfl rfl)
theorem dX6_span_72 : decode cX6_span 72 = .ok (.iconst (-1), 1) := dk_2 (dk_at dksX6_span_3 4 rfl rfl)
theorem dX6_span_73 : decode cX6_span 73 = .ok (.if_icmp .ne 8, 3) := dk_160 0 8 (dk_at dksX6_span_3 5 rfl rfl)
theorem dX6_span_76 : decode cX6_span 76 = .ok (.iload 6, 2) := dk_21 6 (dk_at dksX6_span_3 8 rfl rfl)
theorem dX6_span_78 : decode cX6_span 78 = .ok (.goto 22, 3) := dk_167 0 22 (dk_at dksX6_span_3 10 rfl rfl)
theorem dX6_span_81 : decode cX6_span 81 = .ok (.iload_n 2, 1) := dk_28 (dk_at dksX6_span_3 13 rfl rfl)
theorem dX6_span_82 : decode cX6_span 82 = .ok (.ifCond .eq 12, 3) := dk_153 0 12 (dk_at dksX6_span_3 14 rfl rfl)
theorem dX6_span_85 : decode cX6_span 85 = .ok (.iload_n 3, 1) := dk_29 (dk_at dksX6_span_3 17 rfl rfl)
theorem dX6_span_86 : decode cX6_span 86 = .ok (.iload 6, 2) := dk_21 6 (dk_at dksX6_span_3 18 rfl rfl)
theorem dX6_span_88 : decode cX6_span 88 = .ok (.invokestatic 277, 3) := dk_184 1 21 (dk_at dksX6_span_3 20 rfl rfl)
theorem dX6_span_91 : decode cX6_span 91 = .ok (.goto 9, 3) := dk_167 0 9 (dk_at dksX6_span_4 0 rfl rfl)
theorem dX6_span_94 : decode cX6_span 94 = .ok (.iload_n 3, 1) := dk_29 (dk_at dksX6_span_4 3 rfl rfl)
theorem dX6_span_95 : decode cX6_span 95 = .ok (.iload 6, 2) := dk_21 6 (dk_at dksX6_span_4 4 rfl rfl)
theorem dX6_span_97 : decode cX6_span 97 = .ok (.invokestatic 124, 3) := dk_184 0 124 (dk_at dksX6_span_4 6 rfl rfl)
theorem dX6_span_100 : decode cX6_span 100 = .ok (.istore_n 3, 1) := dk_62 (dk_at dksX6_span_4 9 rfl rfl)
theorem dX6_span_101 : decode cX6_span 101 = .ok (.iinc 4 1, 3) := dk_132 4 1 (dk_at dksX6_span_4 10 rfl rfl)
theorem dX6_span_104 : decode cX6_span 104 = .ok (.goto (-67), 3) := dk_167 255 189 (dk_at dksX6_span_4 13 rfl rfl)
theorem dX6_span_107 : decode cX6_span 107 = .ok (.iload_n 3, 1) := dk_29 (dk_at dksX6_span_4 16 rfl rfl)
theorem dX6_span_108 : decode cX6_span 108 = .ok (.ireturn, 1) := dk_172 (dk_at dksX6_span_4 17 rfl rfl)
abbrev cX6_led : ByteArray := prog_19_method_132_code
def yX6_led : MethodName := ⟨RX6, "led", "(IZ)I"⟩
def dkwX6_led_3 : List UInt8 := [54, 4, 132, 5, 255, 167, 255, 222, 28, 153, 0, 8, 21, 4, 167, 0, 4, 29, 172]
abbrev dktX6_led_3 : List UInt8 := dkwX6_led_3 ++ []
def dkwX6_led_2 : List UInt8 := [21, 5, 4, 182, 1, 171, 27, 159, 0, 6, 167, 0, 15, 132, 3, 1, 42, 21, 5, 3, 182, 1, 171]
abbrev dktX6_led_2 : List UInt8 := dkwX6_led_2 ++ dktX6_led_3
def dkwX6_led_1 : List UInt8 := [3, 172, 3, 62, 2, 54, 4, 42, 180, 0, 7, 16, 9, 46, 4, 100, 54, 5, 21, 5, 155, 0, 35, 42]
abbrev dktX6_led_1 : List UInt8 := dkwX6_led_1 ++ dktX6_led_2
def dkwX6_led_0 : List UInt8 := [42, 42, 27, 182, 1, 54, 154, 0, 7, 4, 167, 0, 4, 3, 181, 0, 54, 42, 180, 0, 54, 158, 0, 5]
abbrev dktX6_led_0 : List UInt8 := dkwX6_led_0 ++ dktX6_led_1
theorem dksX6_led_0 : cX6_led.data.toList.drop 0 = dktX6_led_0 := by decide +kernel
theorem dksX6_led_1 : cX6_led.data.toList.drop 24 = dktX6_led_1 := dk_seg dksX6_led_0 24 rfl rfl
theorem dksX6_led_2 : cX6_led.data.toList.drop 48 = dktX6_led_2 := dk_seg dksX6_led_1 24 rfl rfl
theorem dksX6_led_3 : cX6_led.data.toList.drop 71 = dktX6_led_3 := dk_seg dksX6_led_2 23 rfl rfl
theorem dX6_led_0 : decode cX6_led 0 = .ok (.aload_n 0, 1) := dk_42 (dk_at dksX6_led_0 0 rfl rfl)
theorem dX6_led_1 : decode cX6_led 1 = .ok (.aload_n 0, 1) := dk_42 (dk_at dksX6_led_0 1 rfl rfl)
theorem dX6_led_2 : decode cX6_led 2 = .ok (.iload_n 1, 1) := dk_27 (dk_at dksX6_led_0 2 rfl rfl)
theorem dX6_led_3 : decode cX6_led 3 = .ok (.invokevirtual 310, 3) := dk_182 1 54 (dk_at dksX6_led_0 3 rfl rfl)
theorem dX6_led_6 : decode cX6_led 6 = .ok (.ifCond .ne 7, 3) := dk_154 0 7 (dk_at dksX6_led_0 6 rfl rfl)
theorem dX6_led_9 : decode cX6_led 9 = .ok (.iconst 1, 1) := dk_4 (dk_at dksX6_led_0 9 rfl rfl)
theorem dX6_led_10 : decode cX6_led 10 = .ok (.goto 4, 3) := dk_167 0 4 (dk_at dksX6_led_0 10 rfl rfl)
theorem dX6_led_13 : decode cX6_led 13 = .ok (.iconst 0, 1) := dk_3 (dk_at dksX6_led_0 13 rfl rfl)
theorem dX6_led_14 : decode cX6_led 14 = .ok (.putfield 54, 3) := dk_181 0 54 (dk_at dksX6_led_0 14 rfl rfl)
theorem dX6_led_17 : decode cX6_led 17 = .ok (.aload_n 0, 1) := dk_42 (dk_at dksX6_led_0 17 rfl rfl)
theorem dX6_led_18 : decode cX6_led 18 = .ok (.getfield 54, 3) := dk_180 0 54 (dk_at dksX6_led_0 18 rfl rfl)
theorem dX6_led_21 : decode cX6_led 21 = .ok (.ifCond .le 5, 3) := dk_158 0 5 (dk_at dksX6_led_0 21 rfl rfl)
theorem dX6_led_24 : decode cX6_led 24 = .ok (.iconst 0, 1) := dk_3 (dk_at dksX6_led_1 0 rfl rfl)
theorem dX6_led_25 : decode cX6_led 25 = .ok (.ireturn, 1) := dk_172 (dk_at dksX6_led_1 1 rfl rfl)
theorem dX6_led_26 : decode cX6_led 26 = .ok (.iconst 0, 1) := dk_3 (dk_at dksX6_led_1 2 rfl rfl)
theorem dX6_led_27 : decode cX6_led 27 = .ok (.istore_n 3, 1) := dk_62 (dk_at dksX6_led_1 3 rfl rfl)
theorem dX6_led_28 : decode cX6_led 28 = .ok (.iconst (-1), 1) := dk_2 (dk_at dksX6_led_1 4 rfl rfl)
theorem dX6_led_29 : decode cX6_led 29 = .ok (.istore 4, 2) := dk_54 4 (dk_at dksX6_led_1 5 rfl rfl)
theorem dX6_led_31 : decode cX6_led 31 = .ok (.aload_n 0, 1) := dk_42 (dk_at dksX6_led_1 7 rfl rfl)
theorem dX6_led_32 : decode cX6_led 32 = .ok (.getfield 7, 3) := dk_180 0 7 (dk_at dksX6_led_1 8 rfl rfl)
theorem dX6_led_35 : decode cX6_led 35 = .ok (.bipush 9, 2) := dk_16 9 (dk_at dksX6_led_1 11 rfl rfl)
theorem dX6_led_37 : decode cX6_led 37 = .ok (.iaload, 1) := dk_46 (dk_at dksX6_led_1 13 rfl rfl)
theorem dX6_led_38 : decode cX6_led 38 = .ok (.iconst 1, 1) := dk_4 (dk_at dksX6_led_1 14 rfl rfl)
theorem dX6_led_39 : decode cX6_led 39 = .ok (.isub, 1) := dk_100 (dk_at dksX6_led_1 15 rfl rfl)
theorem dX6_led_40 : decode cX6_led 40 = .ok (.istore 5, 2) := dk_54 5 (dk_at dksX6_led_1 16 rfl rfl)
theorem dX6_led_42 : decode cX6_led 42 = .ok (.iload 5, 2) := dk_21 5 (dk_at dksX6_led_1 18 rfl rfl)
theorem dX6_led_44 : decode cX6_led 44 = .ok (.ifCond .lt 35, 3) := dk_155 0 35 (dk_at dksX6_led_1 20 rfl rfl)
theorem dX6_led_47 : decode cX6_led 47 = .ok (.aload_n 0, 1) := dk_42 (dk_at dksX6_led_1 23 rfl rfl)
theorem dX6_led_48 : decode cX6_led 48 = .ok (.iload 5, 2) := dk_21 5 (dk_at dksX6_led_2 0 rfl rfl)
theorem dX6_led_50 : decode cX6_led 50 = .ok (.iconst 1, 1) := dk_4 (dk_at dksX6_led_2 2 rfl rfl)
theorem dX6_led_51 : decode cX6_led 51 = .ok (.invokevirtual 427, 3) := dk_182 1 171 (dk_at dksX6_led_2 3 rfl rfl)
theorem dX6_led_54 : decode cX6_led 54 = .ok (.iload_n 1, 1) := dk_27 (dk_at dksX6_led_2 6 rfl rfl)
theorem dX6_led_55 : decode cX6_led 55 = .ok (.if_icmp .eq 6, 3) := dk_159 0 6 (dk_at dksX6_led_2 7 rfl rfl)
theorem dX6_led_58 : decode cX6_led 58 = .ok (.goto 15, 3) := dk_167 0 15 (dk_at dksX6_led_2 10 rfl rfl)
theorem dX6_led_61 : decode cX6_led 61 = .ok (.iinc 3 1, 3) := dk_132 3 1 (dk_at dksX6_led_2 13 rfl rfl)
theorem dX6_led_64 : decode cX6_led 64 = .ok (.aload_n 0, 1) := dk_42 (dk_at dksX6_led_2 16 rfl rfl)
theorem dX6_led_65 : decode cX6_led 65 = .ok (.iload 5, 2) := dk_21 5 (dk_at dksX6_led_2 17 rfl rfl)
theorem dX6_led_67 : decode cX6_led 67 = .ok (.iconst 0, 1) := dk_3 (dk_at dksX6_led_2 19 rfl rfl)
theorem dX6_led_68 : decode cX6_led 68 = .ok (.invokevirtual 427, 3) := dk_182 1 171 (dk_at dksX6_led_2 20 rfl rfl)
theorem dX6_led_71 : decode cX6_led 71 = .ok (.istore 4, 2) := dk_54 4 (dk_at dksX6_led_3 0 rfl rfl)
theorem dX6_led_73 : decode cX6_led 73 = .ok (.iinc 5 (-1), 3) := dk_132 5 255 (dk_at dksX6_led_3 2 rfl rfl)
theorem dX6_led_76 : decode cX6_led 76 = .ok (.goto (-34), 3) := dk_167 255 222 (dk_at dksX6_led_3 5 rfl rfl)
theorem dX6_led_79 : decode cX6_led 79 = .ok (.iload_n 2, 1) := dk_28 (dk_at dksX6_led_3 8 rfl rfl)
theorem dX6_led_80 : decode cX6_led 80 = .ok (.ifCond .eq 8, 3) := dk_153 0 8 (dk_at dksX6_led_3 9 rfl rfl)
theorem dX6_led_83 : decode cX6_led 83 = .ok (.iload 4, 2) := dk_21 4 (dk_at dksX6_led_3 12 rfl rfl)
theorem dX6_led_85 : decode cX6_led 85 = .ok (.goto 4, 3) := dk_167 0 4 (dk_at dksX6_led_3 14 rfl rfl)
theorem dX6_led_88 : decode cX6_led 88 = .ok (.iload_n 3, 1) := dk_29 (dk_at dksX6_led_3 17 rfl rfl)
theorem dX6_led_89 : decode cX6_led 89 = .ok (.ireturn, 1) := dk_172 (dk_at dksX6_led_3 18 rfl rfl)
abbrev cX6_logged : ByteArray := prog_19_method_131_code
def yX6_logged : MethodName := ⟨RX6, "logged", "(II)I"⟩
def dkwX6_logged_0 : List UInt8 := [42, 180, 0, 7, 17, 1, 3, 16, 6, 27, 104, 96, 28, 96, 46, 172]
abbrev dktX6_logged_0 : List UInt8 := dkwX6_logged_0 ++ []
theorem dksX6_logged_0 : cX6_logged.data.toList.drop 0 = dktX6_logged_0 := by decide +kernel
theorem dX6_logged_0 : decode cX6_logged 0 = .ok (.aload_n 0, 1) := dk_42 (dk_at dksX6_logged_0 0 rfl rfl)
theorem dX6_logged_1 : decode cX6_logged 1 = .ok (.getfield 7, 3) := dk_180 0 7 (dk_at dksX6_logged_0 1 rfl rfl)
theorem dX6_logged_4 : decode cX6_logged 4 = .ok (.sipush 259, 3) := dk_17 1 3 (dk_at dksX6_logged_0 4 rfl rfl)
theorem dX6_logged_7 : decode cX6_logged 7 = .ok (.bipush 6, 2) := dk_16 6 (dk_at dksX6_logged_0 7 rfl rfl)
theorem dX6_logged_9 : decode cX6_logged 9 = .ok (.iload_n 1, 1) := dk_27 (dk_at dksX6_logged_0 9 rfl rfl)
theorem dX6_logged_10 : decode cX6_logged 10 = .ok (.imul, 1) := dk_104 (dk_at dksX6_logged_0 10 rfl rfl)
theorem dX6_logged_11 : decode cX6_logged 11 = .ok (.iadd, 1) := dk_96 (dk_at dksX6_logged_0 11 rfl rfl)
theorem dX6_logged_12 : decode cX6_logged 12 = .ok (.iload_n 2, 1) := dk_28 (dk_at dksX6_logged_0 12 rfl rfl)
theorem dX6_logged_13 : decode cX6_logged 13 = .ok (.iadd, 1) := dk_96 (dk_at dksX6_logged_0 13 rfl rfl)
theorem dX6_logged_14 : decode cX6_logged 14 = .ok (.iaload, 1) := dk_46 (dk_at dksX6_logged_0 14 rfl rfl)
theorem dX6_logged_15 : decode cX6_logged 15 = .ok (.ireturn, 1) := dk_172 (dk_at dksX6_logged_0 15 rfl rfl)
abbrev cX6_log : ByteArray := prog_19_method_133_code
def yX6_log : MethodName := ⟨RX6, "log", "(II)I"⟩
def dkwX6_log_2 : List UInt8 := [28, 182, 1, 171, 167, 0, 5, 16, 254, 172]
abbrev dktX6_log_2 : List UInt8 := dkwX6_log_2 ++ []
def dkwX6_log_1 : List UInt8 := [158, 0, 5, 3, 172, 27, 3, 42, 180, 0, 7, 16, 9, 46, 4, 100, 184, 0, 57, 153, 0, 12, 42, 27]
abbrev dktX6_log_1 : List UInt8 := dkwX6_log_1 ++ dktX6_log_2
def dkwX6_log_0 : List UInt8 := [42, 28, 3, 8, 184, 0, 57, 154, 0, 7, 4, 167, 0, 4, 3, 181, 0, 54, 42, 180, 0, 54]
abbrev dktX6_log_0 : List UInt8 := dkwX6_log_0 ++ dktX6_log_1
theorem dksX6_log_0 : cX6_log.data.toList.drop 0 = dktX6_log_0 := by decide +kernel
theorem dksX6_log_1 : cX6_log.data.toList.drop 22 = dktX6_log_1 := dk_seg dksX6_log_0 22 rfl rfl
theorem dksX6_log_2 : cX6_log.data.toList.drop 46 = dktX6_log_2 := dk_seg dksX6_log_1 24 rfl rfl
theorem dX6_log_0 : decode cX6_log 0 = .ok (.aload_n 0, 1) := dk_42 (dk_at dksX6_log_0 0 rfl rfl)
theorem dX6_log_1 : decode cX6_log 1 = .ok (.iload_n 2, 1) := dk_28 (dk_at dksX6_log_0 1 rfl rfl)
theorem dX6_log_2 : decode cX6_log 2 = .ok (.iconst 0, 1) := dk_3 (dk_at dksX6_log_0 2 rfl rfl)
theorem dX6_log_3 : decode cX6_log 3 = .ok (.iconst 5, 1) := dk_8 (dk_at dksX6_log_0 3 rfl rfl)
theorem dX6_log_4 : decode cX6_log 4 = .ok (.invokestatic 57, 3) := dk_184 0 57 (dk_at dksX6_log_0 4 rfl rfl)
theorem dX6_log_7 : decode cX6_log 7 = .ok (.ifCond .ne 7, 3) := dk_154 0 7 (dk_at dksX6_log_0 7 rfl rfl)
theorem dX6_log_10 : decode cX6_log 10 = .ok (.iconst 1, 1) := dk_4 (dk_at dksX6_log_0 10 rfl rfl)
theorem dX6_log_11 : decode cX6_log 11 = .ok (.goto 4, 3) := dk_167 0 4 (dk_at dksX6_log_0 11 rfl rfl)
theorem dX6_log_14 : decode cX6_log 14 = .ok (.iconst 0, 1) := dk_3 (dk_at dksX6_log_0 14 rfl rfl)
theorem dX6_log_15 : decode cX6_log 15 = .ok (.putfield 54, 3) := dk_181 0 54 (dk_at dksX6_log_0 15 rfl rfl)
theorem dX6_log_18 : decode cX6_log 18 = .ok (.aload_n 0, 1) := dk_42 (dk_at dksX6_log_0 18 rfl rfl)
theorem dX6_log_19 : decode cX6_log 19 = .ok (.getfield 54, 3) := dk_180 0 54 (dk_at dksX6_log_0 19 rfl rfl)
theorem dX6_log_22 : decode cX6_log 22 = .ok (.ifCond .le 5, 3) := dk_158 0 5 (dk_at dksX6_log_1 0 rfl rfl)
theorem dX6_log_25 : decode cX6_log 25 = .ok (.iconst 0, 1) := dk_3 (dk_at dksX6_log_1 3 rfl rfl)
theorem dX6_log_26 : decode cX6_log 26 = .ok (.ireturn, 1) := dk_172 (dk_at dksX6_log_1 4 rfl rfl)
theorem dX6_log_27 : decode cX6_log 27 = .ok (.iload_n 1, 1) := dk_27 (dk_at dksX6_log_1 5 rfl rfl)
theorem dX6_log_28 : decode cX6_log 28 = .ok (.iconst 0, 1) := dk_3 (dk_at dksX6_log_1 6 rfl rfl)
theorem dX6_log_29 : decode cX6_log 29 = .ok (.aload_n 0, 1) := dk_42 (dk_at dksX6_log_1 7 rfl rfl)
theorem dX6_log_30 : decode cX6_log 30 = .ok (.getfield 7, 3) := dk_180 0 7 (dk_at dksX6_log_1 8 rfl rfl)
theorem dX6_log_33 : decode cX6_log 33 = .ok (.bipush 9, 2) := dk_16 9 (dk_at dksX6_log_1 11 rfl rfl)
theorem dX6_log_35 : decode cX6_log 35 = .ok (.iaload, 1) := dk_46 (dk_at dksX6_log_1 13 rfl rfl)
theorem dX6_log_36 : decode cX6_log 36 = .ok (.iconst 1, 1) := dk_4 (dk_at dksX6_log_1 14 rfl rfl)
theorem dX6_log_37 : decode cX6_log 37 = .ok (.isub, 1) := dk_100 (dk_at dksX6_log_1 15 rfl rfl)
theorem dX6_log_38 : decode cX6_log 38 = .ok (.invokestatic 57, 3) := dk_184 0 57 (dk_at dksX6_log_1 16 rfl rfl)
theorem dX6_log_41 : decode cX6_log 41 = .ok (.ifCond .eq 12, 3) := dk_153 0 12 (dk_at dksX6_log_1 19 rfl rfl)
theorem dX6_log_44 : decode cX6_log 44 = .ok (.aload_n 0, 1) := dk_42 (dk_at dksX6_log_1 22 rfl rfl)
theorem dX6_log_45 : decode cX6_log 45 = .ok (.iload_n 1, 1) := dk_27 (dk_at dksX6_log_1 23 rfl rfl)
theorem dX6_log_46 : decode cX6_log 46 = .ok (.iload_n 2, 1) := dk_28 (dk_at dksX6_log_2 0 rfl rfl)
theorem dX6_log_47 : decode cX6_log 47 = .ok (.invokevirtual 427, 3) := dk_182 1 171 (dk_at dksX6_log_2 1 rfl rfl)
theorem dX6_log_50 : decode cX6_log 50 = .ok (.goto 5, 3) := dk_167 0 5 (dk_at dksX6_log_2 4 rfl rfl)
theorem dX6_log_53 : decode cX6_log 53 = .ok (.bipush (-2), 2) := dk_16 254 (dk_at dksX6_log_2 7 rfl rfl)
theorem dX6_log_55 : decode cX6_log 55 = .ok (.ireturn, 1) := dk_172 (dk_at dksX6_log_2 9 rfl rfl)
abbrev cX6_seed : ByteArray := prog_19_method_134_code
def yX6_seed : MethodName := ⟨RX6, "seed", "(I)I"⟩
def dkwX6_seed_0 : List UInt8 := [42, 3, 181, 0, 54, 42, 180, 0, 7, 16, 10, 46, 61, 42, 180, 0, 7, 16, 10, 27, 79, 28, 172]
abbrev dktX6_seed_0 : List UInt8 := dkwX6_seed_0 ++ []
theorem dksX6_seed_0 : cX6_seed.data.toList.drop 0 = dktX6_seed_0 := by decide +kernel
theorem dX6_seed_0 : decode cX6_seed 0 = .ok (.aload_n 0, 1) := dk_42 (dk_at dksX6_seed_0 0 rfl rfl)
theorem dX6_seed_1 : decode cX6_seed 1 = .ok (.iconst 0, 1) := dk_3 (dk_at dksX6_seed_0 1 rfl rfl)
theorem dX6_seed_2 : decode cX6_seed 2 = .ok (.putfield 54, 3) := dk_181 0 54 (dk_at dksX6_seed_0 2 rfl rfl)
theorem dX6_seed_5 : decode cX6_seed 5 = .ok (.aload_n 0, 1) := dk_42 (dk_at dksX6_seed_0 5 rfl rfl)
theorem dX6_seed_6 : decode cX6_seed 6 = .ok (.getfield 7, 3) := dk_180 0 7 (dk_at dksX6_seed_0 6 rfl rfl)
theorem dX6_seed_9 : decode cX6_seed 9 = .ok (.bipush 10, 2) := dk_16 10 (dk_at dksX6_seed_0 9 rfl rfl)
theorem dX6_seed_11 : decode cX6_seed 11 = .ok (.iaload, 1) := dk_46 (dk_at dksX6_seed_0 11 rfl rfl)
theorem dX6_seed_12 : decode cX6_seed 12 = .ok (.istore_n 2, 1) := dk_61 (dk_at dksX6_seed_0 12 rfl rfl)
theorem dX6_seed_13 : decode cX6_seed 13 = .ok (.aload_n 0, 1) := dk_42 (dk_at dksX6_seed_0 13 rfl rfl)
theorem dX6_seed_14 : decode cX6_seed 14 = .ok (.getfield 7, 3) := dk_180 0 7 (dk_at dksX6_seed_0 14 rfl rfl)
theorem dX6_seed_17 : decode cX6_seed 17 = .ok (.bipush 10, 2) := dk_16 10 (dk_at dksX6_seed_0 17 rfl rfl)
theorem dX6_seed_19 : decode cX6_seed 19 = .ok (.iload_n 1, 1) := dk_27 (dk_at dksX6_seed_0 19 rfl rfl)
theorem dX6_seed_20 : decode cX6_seed 20 = .ok (.iastore, 1) := dk_79 (dk_at dksX6_seed_0 20 rfl rfl)
theorem dX6_seed_21 : decode cX6_seed 21 = .ok (.iload_n 2, 1) := dk_28 (dk_at dksX6_seed_0 21 rfl rfl)
theorem dX6_seed_22 : decode cX6_seed 22 = .ok (.ireturn, 1) := dk_172 (dk_at dksX6_seed_0 22 rfl rfl)
abbrev cX6_undo : ByteArray := prog_19_method_135_code
def yX6_undo : MethodName := ⟨RX6, "undo", "()Z"⟩
def dkwX6_undo_2 : List UInt8 := [180, 0, 205, 104, 27, 96, 46, 79, 132, 1, 1, 167, 255, 225, 4, 172]
abbrev dktX6_undo_2 : List UInt8 := dkwX6_undo_2 ++ []
def dkwX6_undo_1 : List UInt8 := [3, 60, 27, 17, 2, 107, 162, 0, 30, 42, 180, 0, 7, 27, 42, 180, 0, 19, 17, 2, 107, 42]
abbrev dktX6_undo_1 : List UInt8 := dkwX6_undo_1 ++ dktX6_undo_2
def dkwX6_undo_0 : List UInt8 := [42, 3, 181, 0, 54, 42, 180, 0, 205, 154, 0, 5, 3, 172, 42, 89, 180, 0, 205, 4, 100, 181, 0, 205]
abbrev dktX6_undo_0 : List UInt8 := dkwX6_undo_0 ++ dktX6_undo_1
theorem dksX6_undo_0 : cX6_undo.data.toList.drop 0 = dktX6_undo_0 := by decide +kernel
theorem dksX6_undo_1 : cX6_undo.data.toList.drop 24 = dktX6_undo_1 := dk_seg dksX6_undo_0 24 rfl rfl
theorem dksX6_undo_2 : cX6_undo.data.toList.drop 46 = dktX6_undo_2 := dk_seg dksX6_undo_1 22 rfl rfl
theorem dX6_undo_0 : decode cX6_undo 0 = .ok (.aload_n 0, 1) := dk_42 (dk_at dksX6_undo_0 0 rfl rfl)
theorem dX6_undo_1 : decode cX6_undo 1 = .ok (.iconst 0, 1) := dk_3 (dk_at dksX6_undo_0 1 rfl rfl)
theorem dX6_undo_2 : decode cX6_undo 2 = .ok (.putfield 54, 3) := dk_181 0 54 (dk_at dksX6_undo_0 2 rfl rfl)
theorem dX6_undo_5 : decode cX6_undo 5 = .ok (.aload_n 0, 1) := dk_42 (dk_at dksX6_undo_0 5 rfl rfl)
theorem dX6_undo_6 : decode cX6_undo 6 = .ok (.getfield 205, 3) := dk_180 0 205 (dk_at dksX6_undo_0 6 rfl rfl)
theorem dX6_undo_9 : decode cX6_undo 9 = .ok (.ifCond .ne 5, 3) := dk_154 0 5 (dk_at dksX6_undo_0 9 rfl rfl)
theorem dX6_undo_12 : decode cX6_undo 12 = .ok (.iconst 0, 1) := dk_3 (dk_at dksX6_undo_0 12 rfl rfl)
theorem dX6_undo_13 : decode cX6_undo 13 = .ok (.ireturn, 1) := dk_172 (dk_at dksX6_undo_0 13 rfl rfl)
theorem dX6_undo_14 : decode cX6_undo 14 = .ok (.aload_n 0, 1) := dk_42 (dk_at dksX6_undo_0 14 rfl rfl)
theorem dX6_undo_15 : decode cX6_undo 15 = .ok (.dup, 1) := dk_89 (dk_at dksX6_undo_0 15 rfl rfl)
theorem dX6_undo_16 : decode cX6_undo 16 = .ok (.getfield 205, 3) := dk_180 0 205 (dk_at dksX6_undo_0 16 rfl rfl)
theorem dX6_undo_19 : decode cX6_undo 19 = .ok (.iconst 1, 1) := dk_4 (dk_at dksX6_undo_0 19 rfl rfl)
theorem dX6_undo_20 : decode cX6_undo 20 = .ok (.isub, 1) := dk_100 (dk_at dksX6_undo_0 20 rfl rfl)
theorem dX6_undo_21 : decode cX6_undo 21 = .ok (.putfield 205, 3) := dk_181 0 205 (dk_at dksX6_undo_0 21 rfl rfl)
theorem dX6_undo_24 : decode cX6_undo 24 = .ok (.iconst 0, 1) := dk_3 (dk_at dksX6_undo_1 0 rfl rfl)
theorem dX6_undo_25 : decode cX6_undo 25 = .ok (.istore_n 1, 1) := dk_60 (dk_at dksX6_undo_1 1 rfl rfl)
theorem dX6_undo_26 : decode cX6_undo 26 = .ok (.iload_n 1, 1) := dk_27 (dk_at dksX6_undo_1 2 rfl rfl)
theorem dX6_undo_27 : decode cX6_undo 27 = .ok (.sipush 619, 3) := dk_17 2 107 (dk_at dksX6_undo_1 3 rfl rfl)
theorem dX6_undo_30 : decode cX6_undo 30 = .ok (.if_icmp .ge 30, 3) := dk_162 0 30 (dk_at dksX6_undo_1 6 rfl rfl)
theorem dX6_undo_33 : decode cX6_undo 33 = .ok (.aload_n 0, 1) := dk_42 (dk_at dksX6_undo_1 9 rfl rfl)
theorem dX6_undo_34 : decode cX6_undo 34 = .ok (.getfield 7, 3) := dk_180 0 7 (dk_at dksX6_undo_1 10 rfl rfl)
theorem dX6_undo_37 : decode cX6_undo 37 = .ok (.iload_n 1, 1) := dk_27 (dk_at dksX6_undo_1 13 rfl rfl)
theorem dX6_undo_38 : decode cX6_undo 38 = .ok (.aload_n 0, 1) := dk_42 (dk_at dksX6_undo_1 14 rfl rfl)
theorem dX6_undo_39 : decode cX6_undo 39 = .ok (.getfield 19, 3) := dk_180 0 19 (dk_at dksX6_undo_1 15 rfl rfl)
theorem dX6_undo_42 : decode cX6_undo 42 = .ok (.sipush 619, 3) := dk_17 2 107 (dk_at dksX6_undo_1 18 rfl rfl)
theorem dX6_undo_45 : decode cX6_undo 45 = .ok (.aload_n 0, 1) := dk_42 (dk_at dksX6_undo_1 21 rfl rfl)
theorem dX6_undo_46 : decode cX6_undo 46 = .ok (.getfield 205, 3) := dk_180 0 205 (dk_at dksX6_undo_2 0 rfl rfl)
theorem dX6_undo_49 : decode cX6_undo 49 = .ok (.imul, 1) := dk_104 (dk_at dksX6_undo_2 3 rfl rfl)
theorem dX6_undo_50 : decode cX6_undo 50 = .ok (.iload_n 1, 1) := dk_27 (dk_at dksX6_undo_2 4 rfl rfl)
theorem dX6_undo_51 : decode cX6_undo 51 = .ok (.iadd, 1) := dk_96 (dk_at dksX6_undo_2 5 rfl rfl)
theorem dX6_undo_52 : decode cX6_undo 52 = .ok (.iaload, 1) := dk_46 (dk_at dksX6_undo_2 6 rfl rfl)
theorem dX6_undo_53 : decode cX6_undo 53 = .ok (.iastore, 1) := dk_79 (dk_at dksX6_undo_2 7 rfl rfl)
theorem dX6_undo_54 : decode cX6_undo 54 = .ok (.iinc 1 1, 3) := dk_132 1 1 (dk_at dksX6_undo_2 8 rfl rfl)
theorem dX6_undo_57 : decode cX6_undo 57 = .ok (.goto (-31), 3) := dk_167 255 225 (dk_at dksX6_undo_2 11 rfl rfl)
theorem dX6_undo_60 : decode cX6_undo 60 = .ok (.iconst 1, 1) := dk_4 (dk_at dksX6_undo_2 14 rfl rfl)
theorem dX6_undo_61 : decode cX6_undo 61 = .ok (.ireturn, 1) := dk_172 (dk_at dksX6_undo_2 15 rfl rfl)
abbrev cX6_image : ByteArray := prog_19_method_136_code
def yX6_image : MethodName := ⟨RX6, "image", "()V"⟩
def dkwX6_image_1 : List UInt8 := [46, 79, 132, 1, 1, 167, 255, 234, 42, 4, 181, 1, 174, 177]
abbrev dktX6_image_1 : List UInt8 := dkwX6_image_1 ++ []
def dkwX6_image_0 : List UInt8 := [42, 3, 181, 0, 54, 3, 60, 27, 17, 3, 251, 162, 0, 21, 42, 180, 0, 13, 27, 42, 180, 0, 7, 27]
abbrev dktX6_image_0 : List UInt8 := dkwX6_image_0 ++ dktX6_image_1
theorem dksX6_image_0 : cX6_image.data.toList.drop 0 = dktX6_image_0 := by decide +kernel
theorem dksX6_image_1 : cX6_image.data.toList.drop 24 = dktX6_image_1 := dk_seg dksX6_image_0 24 rfl rfl
theorem dX6_image_0 : decode cX6_image 0 = .ok (.aload_n 0, 1) := dk_42 (dk_at dksX6_image_0 0 rfl rfl)
theorem dX6_image_1 : decode cX6_image 1 = .ok (.iconst 0, 1) := dk_3 (dk_at dksX6_image_0 1 rfl rfl)
theorem dX6_image_2 : decode cX6_image 2 = .ok (.putfield 54, 3) := dk_181 0 54 (dk_at dksX6_image_0 2 rfl rfl)
theorem dX6_image_5 : decode cX6_image 5 = .ok (.iconst 0, 1) := dk_3 (dk_at dksX6_image_0 5 rfl rfl)
theorem dX6_image_6 : decode cX6_image 6 = .ok (.istore_n 1, 1) := dk_60 (dk_at dksX6_image_0 6 rfl rfl)
theorem dX6_image_7 : decode cX6_image 7 = .ok (.iload_n 1, 1) := dk_27 (dk_at dksX6_image_0 7 rfl rfl)
theorem dX6_image_8 : decode cX6_image 8 = .ok (.sipush 1019, 3) := dk_17 3 251 (dk_at dksX6_image_0 8 rfl rfl)
theorem dX6_image_11 : decode cX6_image 11 = .ok (.if_icmp .ge 21, 3) := dk_162 0 21 (dk_at dksX6_image_0 11 rfl rfl)
theorem dX6_image_14 : decode cX6_image 14 = .ok (.aload_n 0, 1) := dk_42 (dk_at dksX6_image_0 14 rfl rfl)
theorem dX6_image_15 : decode cX6_image 15 = .ok (.getfield 13, 3) := dk_180 0 13 (dk_at dksX6_image_0 15 rfl rfl)
theorem dX6_image_18 : decode cX6_image 18 = .ok (.iload_n 1, 1) := dk_27 (dk_at dksX6_image_0 18 rfl rfl)
theorem dX6_image_19 : decode cX6_image 19 = .ok (.aload_n 0, 1) := dk_42 (dk_at dksX6_image_0 19 rfl rfl)
theorem dX6_image_20 : decode cX6_image 20 = .ok (.getfield 7, 3) := dk_180 0 7 (dk_at dksX6_image_0 20 rfl rfl)
theorem dX6_image_23 : decode cX6_image 23 = .ok (.iload_n 1, 1) := dk_27 (dk_at dksX6_image_0 23 rfl rfl)
theorem dX6_image_24 : decode cX6_image 24 = .ok (.iaload, 1) := dk_46 (dk_at dksX6_image_1 0 rfl rfl)
theorem dX6_image_25 : decode cX6_image 25 = .ok (.iastore, 1) := dk_79 (dk_at dksX6_image_1 1 rfl rfl)
theorem dX6_image_26 : decode cX6_image 26 = .ok (.iinc 1 1, 3) := dk_132 1 1 (dk_at dksX6_image_1 2 rfl rfl)
theorem dX6_image_29 : decode cX6_image 29 = .ok (.goto (-22), 3) := dk_167 255 234 (dk_at dksX6_image_1 5 rfl rfl)
theorem dX6_image_32 : decode cX6_image 32 = .ok (.aload_n 0, 1) := dk_42 (dk_at dksX6_image_1 8 rfl rfl)
theorem dX6_image_33 : decode cX6_image 33 = .ok (.iconst 1, 1) := dk_4 (dk_at dksX6_image_1 9 rfl rfl)
theorem dX6_image_34 : decode cX6_image 34 = .ok (.putfield 430, 3) := dk_181 1 174 (dk_at dksX6_image_1 10 rfl rfl)
theorem dX6_image_37 : decode cX6_image 37 = .ok (.return_, 1) := dk_177 (dk_at dksX6_image_1 13 rfl rfl)
abbrev cX6_back : ByteArray := prog_19_method_137_code
def yX6_back : MethodName := ⟨RX6, "back", "()Z"⟩
def dkwX6_back_1 : List UInt8 := [180, 0, 7, 27, 42, 180, 0, 13, 27, 46, 79, 132, 1, 1, 167, 255, 234, 42, 3, 181, 0, 205, 4, 172]
abbrev dktX6_back_1 : List UInt8 := dkwX6_back_1 ++ []
def dkwX6_back_0 : List UInt8 := [42, 3, 181, 0, 54, 42, 180, 1, 174, 154, 0, 5, 3, 172, 3, 60, 27, 17, 3, 251, 162, 0, 21, 42]
abbrev dktX6_back_0 : List UInt8 := dkwX6_back_0 ++ dktX6_back_1
theorem dksX6_back_0 : cX6_back.data.toList.drop 0 = dktX6_back_0 := by decide +kernel
theorem dksX6_back_1 : cX6_back.data.toList.drop 24 = dktX6_back_1 := dk_seg dksX6_back_0 24 rfl rfl
theorem dX6_back_0 : decode cX6_back 0 = .ok (.aload_n 0, 1) := dk_42 (dk_at dksX6_back_0 0 rfl rfl)
theorem dX6_back_1 : decode cX6_back 1 = .ok (.iconst 0, 1) := dk_3 (dk_at dksX6_back_0 1 rfl rfl)
theorem dX6_back_2 : decode cX6_back 2 = .ok (.putfield 54, 3) := dk_181 0 54 (dk_at dksX6_back_0 2 rfl rfl)
theorem dX6_back_5 : decode cX6_back 5 = .ok (.aload_n 0, 1) := dk_42 (dk_at dksX6_back_0 5 rfl rfl)
theorem dX6_back_6 : decode cX6_back 6 = .ok (.getfield 430, 3) := dk_180 1 174 (dk_at dksX6_back_0 6 rfl rfl)
theorem dX6_back_9 : decode cX6_back 9 = .ok (.ifCond .ne 5, 3) := dk_154 0 5 (dk_at dksX6_back_0 9 rfl rfl)
theorem dX6_back_12 : decode cX6_back 12 = .ok (.iconst 0, 1) := dk_3 (dk_at dksX6_back_0 12 rfl rfl)
theorem dX6_back_13 : decode cX6_back 13 = .ok (.ireturn, 1) := dk_172 (dk_at dksX6_back_0 13 rfl rfl)
theorem dX6_back_14 : decode cX6_back 14 = .ok (.iconst 0, 1) := dk_3 (dk_at dksX6_back_0 14 rfl rfl)
theorem dX6_back_15 : decode cX6_back 15 = .ok (.istore_n 1, 1) := dk_60 (dk_at dksX6_back_0 15 rfl rfl)
theorem dX6_back_16 : decode cX6_back 16 = .ok (.iload_n 1, 1) := dk_27 (dk_at dksX6_back_0 16 rfl rfl)
theorem dX6_back_17 : decode cX6_back 17 = .ok (.sipush 1019, 3) := dk_17 3 251 (dk_at dksX6_back_0 17 rfl rfl)
theorem dX6_back_20 : decode cX6_back 20 = .ok (.if_icmp .ge 21, 3) := dk_162 0 21 (dk_at dksX6_back_0 20 rfl rfl)
theorem dX6_back_23 : decode cX6_back 23 = .ok (.aload_n 0, 1) := dk_42 (dk_at dksX6_back_0 23 rfl rfl)
theorem dX6_back_24 : decode cX6_back 24 = .ok (.getfield 7, 3) := dk_180 0 7 (dk_at dksX6_back_1 0 rfl rfl)
theorem dX6_back_27 : decode cX6_back 27 = .ok (.iload_n 1, 1) := dk_27 (dk_at dksX6_back_1 3 rfl rfl)
theorem dX6_back_28 : decode cX6_back 28 = .ok (.aload_n 0, 1) := dk_42 (dk_at dksX6_back_1 4 rfl rfl)
theorem dX6_back_29 : decode cX6_back 29 = .ok (.getfield 13, 3) := dk_180 0 13 (dk_at dksX6_back_1 5 rfl rfl)
theorem dX6_back_32 : decode cX6_back 32 = .ok (.iload_n 1, 1) := dk_27 (dk_at dksX6_back_1 8 rfl rfl)
theorem dX6_back_33 : decode cX6_back 33 = .ok (.iaload, 1) := dk_46 (dk_at dksX6_back_1 9 rfl rfl)
theorem dX6_back_34 : decode cX6_back 34 = .ok (.iastore, 1) := dk_79 (dk_at dksX6_back_1 10 rfl rfl)
theorem dX6_back_35 : decode cX6_back 35 = .ok (.iinc 1 1, 3) := dk_132 1 1 (dk_at dksX6_back_1 11 rfl rfl)
theorem dX6_back_38 : decode cX6_back 38 = .ok (.goto (-22), 3) := dk_167 255 234 (dk_at dksX6_back_1 14 rfl rfl)
theorem dX6_back_41 : decode cX6_back 41 = .ok (.aload_n 0, 1) := dk_42 (dk_at dksX6_back_1 17 rfl rfl)
theorem dX6_back_42 : decode cX6_back 42 = .ok (.iconst 0, 1) := dk_3 (dk_at dksX6_back_1 18 rfl rfl)
theorem dX6_back_43 : decode cX6_back 43 = .ok (.putfield 205, 3) := dk_181 0 205 (dk_at dksX6_back_1 19 rfl rfl)
theorem dX6_back_46 : decode cX6_back 46 = .ok (.iconst 1, 1) := dk_4 (dk_at dksX6_back_1 22 rfl rfl)
theorem dX6_back_47 : decode cX6_back 47 = .ok (.ireturn, 1) := dk_172 (dk_at dksX6_back_1 23 rfl rfl)
abbrev cX6_count : ByteArray := prog_19_method_139_code
def yX6_count : MethodName := ⟨RX6, "count", "(I)I"⟩
def dkwX6_count_6 : List UInt8 := [160, 0, 10, 42, 180, 0, 205, 167, 0, 4, 2, 172]
abbrev dktX6_count_6 : List UInt8 := dkwX6_count_6 ++ []
def dkwX6_count_5 : List UInt8 := [42, 182, 1, 63, 172, 27, 16, 10, 160, 0, 11, 42, 180, 0, 7, 16, 9, 46, 172, 27, 16, 11]
abbrev dktX6_count_5 : List UInt8 := dkwX6_count_5 ++ dktX6_count_6
def dkwX6_count_4 : List UInt8 := [27, 96, 16, 6, 100, 46, 172, 27, 16, 8, 160, 0, 8, 42, 182, 1, 177, 172, 27, 16, 9, 160, 0, 8]
abbrev dktX6_count_4 : List UInt8 := dkwX6_count_4 ++ dktX6_count_5
def dkwX6_count_3 : List UInt8 := [42, 180, 0, 7, 8, 46, 172, 27, 16, 6, 16, 7, 184, 0, 57, 153, 0, 16, 42, 180, 0, 7, 16, 7]
abbrev dktX6_count_3 : List UInt8 := dkwX6_count_3 ++ dktX6_count_4
def dkwX6_count_2 : List UInt8 := [180, 0, 7, 4, 46, 172, 27, 7, 160, 0, 11, 42, 180, 0, 7, 16, 6, 46, 172, 27, 8, 160, 0, 10]
abbrev dktX6_count_2 : List UInt8 := dkwX6_count_2 ++ dktX6_count_3
def dkwX6_count_1 : List UInt8 := [180, 0, 7, 7, 46, 172, 27, 5, 160, 0, 10, 42, 180, 0, 7, 3, 46, 172, 27, 6, 160, 0, 10, 42]
abbrev dktX6_count_1 : List UInt8 := dkwX6_count_1 ++ dktX6_count_2
def dkwX6_count_0 : List UInt8 := [42, 3, 181, 0, 54, 27, 154, 0, 10, 42, 180, 0, 7, 6, 46, 172, 27, 4, 160, 0, 10, 42]
abbrev dktX6_count_0 : List UInt8 := dkwX6_count_0 ++ dktX6_count_1
theorem dksX6_count_0 : cX6_count.data.toList.drop 0 = dktX6_count_0 := by decide +kernel
theorem dksX6_count_1 : cX6_count.data.toList.drop 22 = dktX6_count_1 := dk_seg dksX6_count_0 22 rfl rfl
theorem dksX6_count_2 : cX6_count.data.toList.drop 46 = dktX6_count_2 := dk_seg dksX6_count_1 24 rfl rfl
theorem dksX6_count_3 : cX6_count.data.toList.drop 70 = dktX6_count_3 := dk_seg dksX6_count_2 24 rfl rfl
theorem dksX6_count_4 : cX6_count.data.toList.drop 94 = dktX6_count_4 := dk_seg dksX6_count_3 24 rfl rfl
theorem dksX6_count_5 : cX6_count.data.toList.drop 118 = dktX6_count_5 := dk_seg dksX6_count_4 24 rfl rfl
theorem dksX6_count_6 : cX6_count.data.toList.drop 140 = dktX6_count_6 := dk_seg dksX6_count_5 22 rfl rfl
theorem dX6_count_0 : decode cX6_count 0 = .ok (.aload_n 0, 1) := dk_42 (dk_at dksX6_count_0 0 rfl rfl)
theorem dX6_count_1 : decode cX6_count 1 = .ok (.iconst 0, 1) := dk_3 (dk_at dksX6_count_0 1 rfl rfl)
theorem dX6_count_2 : decode cX6_count 2 = .ok (.putfield 54, 3) := dk_181 0 54 (dk_at dksX6_count_0 2 rfl rfl)
theorem dX6_count_5 : decode cX6_count 5 = .ok (.iload_n 1, 1) := dk_27 (dk_at dksX6_count_0 5 rfl rfl)
theorem dX6_count_6 : decode cX6_count 6 = .ok (.ifCond .ne 10, 3) := dk_154 0 10 (dk_at dksX6_count_0 6 rfl rfl)
theorem dX6_count_9 : decode cX6_count 9 = .ok (.aload_n 0, 1) := dk_42 (dk_at dksX6_count_0 9 rfl rfl)
theorem dX6_count_10 : decode cX6_count 10 = .ok (.getfield 7, 3) := dk_180 0 7 (dk_at dksX6_count_0 10 rfl rfl)
theorem dX6_count_13 : decode cX6_count 13 = .ok (.iconst 3, 1) := dk_6 (dk_at dksX6_count_0 13 rfl rfl)
theorem dX6_count_14 : decode cX6_count 14 = .ok (.iaload, 1) := dk_46 (dk_at dksX6_count_0 14 rfl rfl)
theorem dX6_count_15 : decode cX6_count 15 = .ok (.ireturn, 1) := dk_172 (dk_at dksX6_count_0 15 rfl rfl)
theorem dX6_count_16 : decode cX6_count 16 = .ok (.iload_n 1, 1) := dk_27 (dk_at dksX6_count_0 16 rfl rfl)
theorem dX6_count_17 : decode cX6_count 17 = .ok (.iconst 1, 1) := dk_4 (dk_at dksX6_count_0 17 rfl rfl)
theorem dX6_count_18 : decode cX6_count 18 = .ok (.if_icmp .ne 10, 3) := dk_160 0 10 (dk_at dksX6_count_0 18 rfl rfl)
theorem dX6_count_21 : decode cX6_count 21 = .ok (.aload_n 0, 1) := dk_42 (dk_at dksX6_count_0 21 rfl rfl)
theorem dX6_count_22 : decode cX6_count 22 = .ok (.getfield 7, 3) := dk_180 0 7 (dk_at dksX6_count_1 0 rfl rfl)
theorem dX6_count_25 : decode cX6_count 25 = .ok (.iconst 4, 1) := dk_7 (dk_at dksX6_count_1 3 rfl rfl)
theorem dX6_count_26 : decode cX6_count 26 = .ok (.iaload, 1) := dk_46 (dk_at dksX6_count_1 4 rfl rfl)
theorem dX6_count_27 : decode cX6_count 27 = .ok (.ireturn, 1) := dk_172 (dk_at dksX6_count_1 5 rfl rfl)
theorem dX6_count_28 : decode cX6_count 28 = .ok (.iload_n 1, 1) := dk_27 (dk_at dksX6_count_1 6 rfl rfl)
theorem dX6_count_29 : decode cX6_count 29 = .ok (.iconst 2, 1) := dk_5 (dk_at dksX6_count_1 7 rfl rfl)
theorem dX6_count_30 : decode cX6_count 30 = .ok (.if_icmp .ne 10, 3) := dk_160 0 10 (dk_at dksX6_count_1 8 rfl rfl)
theorem dX6_count_33 : decode cX6_count 33 = .ok (.aload_n 0, 1) := dk_42 (dk_at dksX6_count_1 11 rfl rfl)
theorem dX6_count_34 : decode cX6_count 34 = .ok (.getfield 7, 3) := dk_180 0 7 (dk_at dksX6_count_1 12 rfl rfl)
theorem dX6_count_37 : decode cX6_count 37 = .ok (.iconst 0, 1) := dk_3 (dk_at dksX6_count_1 15 rfl rfl)
theorem dX6_count_38 : decode cX6_count 38 = .ok (.iaload, 1) := dk_46 (dk_at dksX6_count_1 16 rfl rfl)
theorem dX6_count_39 : decode cX6_count 39 = .ok (.ireturn, 1) := dk_172 (dk_at dksX6_count_1 17 rfl rfl)
theorem dX6_count_40 : decode cX6_count 40 = .ok (.iload_n 1, 1) := dk_27 (dk_at dksX6_count_1 18 rfl rfl)
theorem dX6_count_41 : decode cX6_count 41 = .ok (.iconst 3, 1) := dk_6 (dk_at dksX6_count_1 19 rfl rfl)
theorem dX6_count_42 : decode cX6_count 42 = .ok (.if_icmp .ne 10, 3) := dk_160 0 10 (dk_at dksX6_count_1 20 rfl rfl)
theorem dX6_count_45 : decode cX6_count 45 = .ok (.aload_n 0, 1) := dk_42 (dk_at dksX6_count_1 23 rfl rfl)
theorem dX6_count_46 : decode cX6_count 46 = .ok (.getfield 7, 3) := dk_180 0 7 (dk_at dksX6_count_2 0 rfl rfl)
theorem dX6_count_49 : decode cX6_count 49 = .ok (.iconst 1, 1) := dk_4 (dk_at dksX6_count_2 3 rfl rfl)
theorem dX6_count_50 : decode cX6_count 50 = .ok (.iaload, 1) := dk_46 (dk_at dksX6_count_2 4 rfl rfl)
theorem dX6_count_51 : decode cX6_count 51 = .ok (.ireturn, 1) := dk_172 (dk_at dksX6_count_2 5 rfl rfl)
theorem dX6_count_52 : decode cX6_count 52 = .ok (.iload_n 1, 1) := dk_27 (dk_at dksX6_count_2 6 rfl rfl)
theorem dX6_count_53 : decode cX6_count 53 = .ok (.iconst 4, 1) := dk_7 (dk_at dksX6_count_2 7 rfl rfl)
theorem dX6_count_54 : decode cX6_count 54 = .ok (.if_icmp .ne 11, 3) := dk_160 0 11 (dk_at dksX6_count_2 8 rfl rfl)
theorem dX6_count_57 : decode cX6_count 57 = .ok (.aload_n 0, 1) := dk_42 (dk_at dksX6_count_2 11 rfl rfl)
theorem dX6_count_58 : decode cX6_count 58 = .ok (.getfield 7, 3) := dk_180 0 7 (dk_at dksX6_count_2 12 rfl rfl)
theorem dX6_count_61 : decode cX6_count 61 = .ok (.bipush 6, 2) := dk_16 6 (dk_at dksX6_count_2 15 rfl rfl)
theorem dX6_count_63 : decode cX6_count 63 = .ok (.iaload, 1) := dk_46 (dk_at dksX6_count_2 17 rfl rfl)
theorem dX6_count_64 : decode cX6_count 64 = .ok (.ireturn, 1) := dk_172 (dk_at dksX6_count_2 18 rfl rfl)
theorem dX6_count_65 : decode cX6_count 65 = .ok (.iload_n 1, 1) := dk_27 (dk_at dksX6_count_2 19 rfl rfl)
theorem dX6_count_66 : decode cX6_count 66 = .ok (.iconst 5, 1) := dk_8 (dk_at dksX6_count_2 20 rfl rfl)
theorem dX6_count_67 : decode cX6_count 67 = .ok (.if_icmp .ne 10, 3) := dk_160 0 10 (dk_at dksX6_count_2 21 rfl rfl)
theorem dX6_count_70 : decode cX6_count 70 = .ok (.aload_n 0, 1) := dk_42 (dk_at dksX6_count_3 0 rfl rfl)
theorem dX6_count_71 : decode cX6_count 71 = .ok (.getfield 7, 3) := dk_180 0 7 (dk_at dksX6_count_3 1 rfl rfl)
theorem dX6_count_74 : decode cX6_count 74 = .ok (.iconst 5, 1) := dk_8 (dk_at dksX6_count_3 4 rfl rfl)
theorem dX6_count_75 : decode cX6_count 75 = .ok (.iaload, 1) := dk_46 (dk_at dksX6_count_3 5 rfl rfl)
theorem dX6_count_76 : decode cX6_count 76 = .ok (.ireturn, 1) := dk_172 (dk_at dksX6_count_3 6 rfl rfl)
theorem dX6_count_77 : decode cX6_count 77 = .ok (.iload_n 1, 1) := dk_27 (dk_at dksX6_count_3 7 rfl rfl)
theorem dX6_count_78 : decode cX6_count 78 = .ok (.bipush 6, 2) := dk_16 6 (dk_at dksX6_count_3 8 rfl rfl)
theorem dX6_count_80 : decode cX6_count 80 = .ok (.bipush 7, 2) := dk_16 7 (dk_at dksX6_count_3 10 rfl rfl)
theorem dX6_count_82 : decode cX6_count 82 = .ok (.invokestatic 57, 3) := dk_184 0 57 (dk_at dksX6_count_3 12 rfl rfl)
theorem dX6_count_85 : decode cX6_count 85 = .ok (.ifCond .eq 16, 3) := dk_153 0 16 (dk_at dksX6_count_3 15 rfl rfl)
theorem dX6_count_88 : decode cX6_count 88 = .ok (.aload_n 0, 1) := dk_42 (dk_at dksX6_count_3 18 rfl rfl)
theorem dX6_count_89 : decode cX6_count 89 = .ok (.getfield 7, 3) := dk_180 0 7 (dk_at dksX6_count_3 19 rfl rfl)
theorem dX6_count_92 : decode cX6_count 92 = .ok (.bipush 7, 2) := dk_16 7 (dk_at dksX6_count_3 22 rfl rfl)
theorem dX6_count_94 : decode cX6_count 94 = .ok (.iload_n 1, 1) := dk_27 (dk_at dksX6_count_4 0 rfl rfl)
theorem dX6_count_95 : decode cX6_count 95 = .ok (.iadd, 1) := dk_96 (dk_at dksX6_count_4 1 rfl rfl)
theorem dX6_count_96 : decode cX6_count 96 = .ok (.bipush 6, 2) := dk_16 6 (dk_at dksX6_count_4 2 rfl rfl)
theorem dX6_count_98 : decode cX6_count 98 = .ok (.isub, 1) := dk_100 (dk_at dksX6_count_4 4 rfl rfl)
theorem dX6_count_99 : decode cX6_count 99 = .ok (.iaload, 1) := dk_46 (dk_at dksX6_count_4 5 rfl rfl)
theorem dX6_count_100 : decode cX6_count 100 = .ok (.ireturn, 1) := dk_172 (dk_at dksX6_count_4 6 rfl rfl)
theorem dX6_count_101 : decode cX6_count 101 = .ok (.iload_n 1, 1) := dk_27 (dk_at dksX6_count_4 7 rfl rfl)
theorem dX6_count_102 : decode cX6_count 102 = .ok (.bipush 8, 2) := dk_16 8 (dk_at dksX6_count_4 8 rfl rfl)
theorem dX6_count_104 : decode cX6_count 104 = .ok (.if_icmp .ne 8, 3) := dk_160 0 8 (dk_at dksX6_count_4 10 rfl rfl)
theorem dX6_count_107 : decode cX6_count 107 = .ok (.aload_n 0, 1) := dk_42 (dk_at dksX6_count_4 13 rfl rfl)
theorem dX6_count_108 : decode cX6_count 108 = .ok (.invokevirtual 433, 3) := dk_182 1 177 (dk_at dksX6_count_4 14 rfl rfl)
theorem dX6_count_111 : decode cX6_count 111 = .ok (.ireturn, 1) := dk_172 (dk_at dksX6_count_4 17 rfl rfl)
theorem dX6_count_112 : decode cX6_count 112 = .ok (.iload_n 1, 1) := dk_27 (dk_at dksX6_count_4 18 rfl rfl)
theorem dX6_count_113 : decode cX6_count 113 = .ok (.bipush 9, 2) := dk_16 9 (dk_at dksX6_count_4 19 rfl rfl)
theorem dX6_count_115 : decode cX6_count 115 = .ok (.if_icmp .ne 8, 3) := dk_160 0 8 (dk_at dksX6_count_4 21 rfl rfl)
theorem dX6_count_118 : decode cX6_count 118 = .ok (.aload_n 0, 1) := dk_42 (dk_at dksX6_count_5 0 rfl rfl)
theorem dX6_count_119 : decode cX6_count 119 = .ok (.invokevirtual 319, 3) := dk_182 1 63 (dk_at dksX6_count_5 1 rfl rfl)
theorem dX6_count_122 : decode cX6_count 122 = .ok (.ireturn, 1) := dk_172 (dk_at dksX6_count_5 4 rfl rfl)
theorem dX6_count_123 : decode cX6_count 123 = .ok (.iload_n 1, 1) := dk_27 (dk_at dksX6_count_5 5 rfl rfl)
theorem dX6_count_124 : decode cX6_count 124 = .ok (.bipush 10, 2) := dk_16 10 (dk_at dksX6_count_5 6 rfl rfl)
theorem dX6_count_126 : decode cX6_count 126 = .ok (.if_icmp .ne 11, 3) := dk_160 0 11 (dk_at dksX6_count_5 8 rfl rfl)
theorem dX6_count_129 : decode cX6_count 129 = .ok (.aload_n 0, 1) := dk_42 (dk_at dksX6_count_5 11 rfl rfl)
theorem dX6_count_130 : decode cX6_count 130 = .ok (.getfield 7, 3) := dk_180 0 7 (dk_at dksX6_count_5 12 rfl rfl)
theorem dX6_count_133 : decode cX6_count 133 = .ok (.bipush 9, 2) := dk_16 9 (dk_at dksX6_count_5 15 rfl rfl)
theorem dX6_count_135 : decode cX6_count 135 = .ok (.iaload, 1) := dk_46 (dk_at dksX6_count_5 17 rfl rfl)
theorem dX6_count_136 : decode cX6_count 136 = .ok (.ireturn, 1) := dk_172 (dk_at dksX6_count_5 18 rfl rfl)
theorem dX6_count_137 : decode cX6_count 137 = .ok (.iload_n 1, 1) := dk_27 (dk_at dksX6_count_5 19 rfl rfl)
theorem dX6_count_138 : decode cX6_count 138 = .ok (.bipush 11, 2) := dk_16 11 (dk_at dksX6_count_5 20 rfl rfl)
theorem dX6_count_140 : decode cX6_count 140 = .ok (.if_icmp .ne 10, 3) := dk_160 0 10 (dk_at dksX6_count_6 0 rfl rfl)
theorem dX6_count_143 : decode cX6_count 143 = .ok (.aload_n 0, 1) := dk_42 (dk_at dksX6_count_6 3 rfl rfl)
theorem dX6_count_144 : decode cX6_count 144 = .ok (.getfield 205, 3) := dk_180 0 205 (dk_at dksX6_count_6 4 rfl rfl)
theorem dX6_count_147 : decode cX6_count 147 = .ok (.goto 4, 3) := dk_167 0 4 (dk_at dksX6_count_6 7 rfl rfl)
theorem dX6_count_150 : decode cX6_count 150 = .ok (.iconst (-1), 1) := dk_2 (dk_at dksX6_count_6 10 rfl rfl)
theorem dX6_count_151 : decode cX6_count 151 = .ok (.ireturn, 1) := dk_172 (dk_at dksX6_count_6 11 rfl rfl)
abbrev cX6_bookings : ByteArray := prog_19_method_138_code
def yX6_bookings : MethodName := ⟨RX6, "bookings", "()I"⟩
def dkwX6_bookings_2 : List UInt8 := [132, 2, 1, 167, 255, 211, 27, 172]
abbrev dktX6_bookings_2 : List UInt8 := dkwX6_bookings_2 ++ []
def dkwX6_bookings_1 : List UInt8 := [28, 29, 182, 1, 15, 2, 160, 0, 7, 3, 167, 0, 4, 4, 96, 60, 132, 3, 1, 167, 255, 229]
abbrev dktX6_bookings_1 : List UInt8 := dkwX6_bookings_1 ++ dktX6_bookings_2
def dkwX6_bookings_0 : List UInt8 := [3, 60, 3, 61, 28, 42, 180, 0, 7, 6, 46, 162, 0, 41, 3, 62, 29, 16, 8, 162, 0, 27, 27, 42]
abbrev dktX6_bookings_0 : List UInt8 := dkwX6_bookings_0 ++ dktX6_bookings_1
theorem dksX6_bookings_0 : cX6_bookings.data.toList.drop 0 = dktX6_bookings_0 := by decide +kernel
theorem dksX6_bookings_1 : cX6_bookings.data.toList.drop 24 = dktX6_bookings_1 := dk_seg dksX6_bookings_0 24 rfl rfl
theorem dksX6_bookings_2 : cX6_bookings.data.toList.drop 46 = dktX6_bookings_2 := dk_seg dksX6_bookings_1 22 rfl rfl
theorem dX6_bookings_0 : decode cX6_bookings 0 = .ok (.iconst 0, 1) := dk_3 (dk_at dksX6_bookings_0 0 rfl rfl)
theorem dX6_bookings_1 : decode cX6_bookings 1 = .ok (.istore_n 1, 1) := dk_60 (dk_at dksX6_bookings_0 1 rfl rfl)
theorem dX6_bookings_2 : decode cX6_bookings 2 = .ok (.iconst 0, 1) := dk_3 (dk_at dksX6_bookings_0 2 rfl rfl)
theorem dX6_bookings_3 : decode cX6_bookings 3 = .ok (.istore_n 2, 1) := dk_61 (dk_at dksX6_bookings_0 3 rfl rfl)
theorem dX6_bookings_4 : decode cX6_bookings 4 = .ok (.iload_n 2, 1) := dk_28 (dk_at dksX6_bookings_0 4 rfl rfl)
theorem dX6_bookings_5 : decode cX6_bookings 5 = .ok (.aload_n 0, 1) := dk_42 (dk_at dksX6_bookings_0 5 rfl rfl)
theorem dX6_bookings_6 : decode cX6_bookings 6 = .ok (.getfield 7, 3) := dk_180 0 7 (dk_at dksX6_bookings_0 6 rfl rfl)
theorem dX6_bookings_9 : decode cX6_bookings 9 = .ok (.iconst 3, 1) := dk_6 (dk_at dksX6_bookings_0 9 rfl rfl)
theorem dX6_bookings_10 : decode cX6_bookings 10 = .ok (.iaload, 1) := dk_46 (dk_at dksX6_bookings_0 10 rfl rfl)
theorem dX6_bookings_11 : decode cX6_bookings 11 = .ok (.if_icmp .ge 41, 3) := dk_162 0 41 (dk_at dksX6_bookings_0 11 rfl rfl)
theorem dX6_bookings_14 : decode cX6_bookings 14 = .ok (.iconst 0, 1) := dk_3 (dk_at dksX6_bookings_0 14 rfl rfl)
theorem dX6_bookings_15 : decode cX6_bookings 15 = .ok (.istore_n 3, 1) := dk_62 (dk_at dksX6_bookings_0 15 rfl rfl)
theorem dX6_bookings_16 : decode cX6_bookings 16 = .ok (.iload_n 3, 1) := dk_29 (dk_at dksX6_bookings_0 16 rfl rfl)
theorem dX6_bookings_17 : decode cX6_bookings 17 = .ok (.bipush 8, 2) := dk_16 8 (dk_at dksX6_bookings_0 17 rfl rfl)
theorem dX6_bookings_19 : decode cX6_bookings 19 = .ok (.if_icmp .ge 27, 3) := dk_162 0 27 (dk_at dksX6_bookings_0 19 rfl rfl)
theorem dX6_bookings_22 : decode cX6_bookings 22 = .ok (.iload_n 1, 1) := dk_27 (dk_at dksX6_bookings_0 22 rfl rfl)
theorem dX6_bookings_23 : decode cX6_bookings 23 = .ok (.aload_n 0, 1) := dk_42 (dk_at dksX6_bookings_0 23 rfl rfl)
theorem dX6_bookings_24 : decode cX6_bookings 24 = .ok (.iload_n 2, 1) := dk_28 (dk_at dksX6_bookings_1 0 rfl rfl)
theorem dX6_bookings_25 : decode cX6_bookings 25 = .ok (.iload_n 3, 1) := dk_29 (dk_at dksX6_bookings_1 1 rfl rfl)
theorem dX6_bookings_26 : decode cX6_bookings 26 = .ok (.invokevirtual 271, 3) := dk_182 1 15 (dk_at dksX6_bookings_1 2 rfl rfl)
theorem dX6_bookings_29 : decode cX6_bookings 29 = .ok (.iconst (-1), 1) := dk_2 (dk_at dksX6_bookings_1 5 rfl rfl)
theorem dX6_bookings_30 : decode cX6_bookings 30 = .ok (.if_icmp .ne 7, 3) := dk_160 0 7 (dk_at dksX6_bookings_1 6 rfl rfl)
theorem dX6_bookings_33 : decode cX6_bookings 33 = .ok (.iconst 0, 1) := dk_3 (dk_at dksX6_bookings_1 9 rfl rfl)
theorem dX6_bookings_34 : decode cX6_bookings 34 = .ok (.goto 4, 3) := dk_167 0 4 (dk_at dksX6_bookings_1 10 rfl rfl)
theorem dX6_bookings_37 : decode cX6_bookings 37 = .ok (.iconst 1, 1) := dk_4 (dk_at dksX6_bookings_1 13 rfl rfl)
theorem dX6_bookings_38 : decode cX6_bookings 38 = .ok (.iadd, 1) := dk_96 (dk_at dksX6_bookings_1 14 rfl rfl)
theorem dX6_bookings_39 : decode cX6_bookings 39 = .ok (.istore_n 1, 1) := dk_60 (dk_at dksX6_bookings_1 15 rfl rfl)
theorem dX6_bookings_40 : decode cX6_bookings 40 = .ok (.iinc 3 1, 3) := dk_132 3 1 (dk_at dksX6_bookings_1 16 rfl rfl)
theorem dX6_bookings_43 : decode cX6_bookings 43 = .ok (.goto (-27), 3) := dk_167 255 229 (dk_at dksX6_bookings_1 19 rfl rfl)
theorem dX6_bookings_46 : decode cX6_bookings 46 = .ok (.iinc 2 1, 3) := dk_132 2 1 (dk_at dksX6_bookings_2 0 rfl rfl)
theorem dX6_bookings_49 : decode cX6_bookings 49 = .ok (.goto (-45), 3) := dk_167 255 211 (dk_at dksX6_bookings_2 3 rfl rfl)
theorem dX6_bookings_52 : decode cX6_bookings 52 = .ok (.iload_n 1, 1) := dk_27 (dk_at dksX6_bookings_2 6 rfl rfl)
theorem dX6_bookings_53 : decode cX6_bookings 53 = .ok (.ireturn, 1) := dk_172 (dk_at dksX6_bookings_2 7 rfl rfl)
theorem q152 : (Jvm.Cond.initialized "VisitingHoursModel") ∈ lw_all := lw_g (lw_at lw_m1 9 rfl) rfl
theorem q1583 : (Jvm.Cond.selects "VisitingHoursModel" ({ cls := "java/lang/Object", name := "getClass", desc := "()Ljava/lang/Class;" } : Jvm.MethodName) ({ cls := "java/lang/Object", name := "getClass", desc := "()Ljava/lang/Class;" } : Jvm.MethodName)) ∈ lw_all := lw_g (lw_at lw_m7 0 rfl) rfl
theorem q2123 : (Jvm.Cond.instantiable "VisitingHoursModel" (28 : Nat)) ∈ lw_all := lw_g (lw_at lw_m9 60 rfl) rfl
theorem q2125 : (Jvm.Cond.instanceMethod ({ cls := "VisitingHoursModel", name := "<init>", desc := "()V" } : Jvm.MethodName)) ∈ lw_all := lw_g (lw_at lw_m9 62 rfl) rfl
theorem q2126 : (Jvm.Cond.code ({ cls := "VisitingHoursModel", name := "<init>", desc := "()V" } : Jvm.MethodName) prog_19_method_1_code (2 : Nat) (Option.none : Option Jvm.ClassFile.FieldType)) ∈ lw_all := lw_g (lw_at lw_m9 63 rfl) rfl
theorem q2127 : (Jvm.Cond.methodLink "VisitingHoursModel" (1 : Nat) ({ cls := "java/lang/Object", name := "<init>", desc := "()V" } : Jvm.MethodName)) ∈ lw_all := lw_g (lw_at lw_m9 64 rfl) rfl
theorem q2128 : (Jvm.Cond.fieldLink "VisitingHoursModel" (54 : Nat) "VisitingHoursModel" "thrown" "I") ∈ lw_all := lw_g (lw_at lw_m9 65 rfl) rfl
theorem q2129 : (Jvm.Cond.fieldLink "VisitingHoursModel" (7 : Nat) "VisitingHoursModel" "m" "[I") ∈ lw_all := lw_g (lw_at lw_m9 66 rfl) rfl
theorem q2130 : (Jvm.Cond.fieldLink "VisitingHoursModel" (13 : Nat) "VisitingHoursModel" "kept" "[I") ∈ lw_all := lw_g (lw_at lw_m9 67 rfl) rfl
theorem q2131 : (Jvm.Cond.fieldLink "VisitingHoursModel" (430 : Nat) "VisitingHoursModel" "hasImage" "Z") ∈ lw_all := lw_g (lw_at lw_m9 68 rfl) rfl
theorem q2132 : (Jvm.Cond.fieldLink "VisitingHoursModel" (16 : Nat) "VisitingHoursModel" "aside" "[I") ∈ lw_all := lw_g (lw_at lw_m9 69 rfl) rfl
theorem q2133 : (Jvm.Cond.fieldLink "VisitingHoursModel" (19 : Nat) "VisitingHoursModel" "acts" "[I") ∈ lw_all := lw_g (lw_at lw_m9 70 rfl) rfl
theorem q2134 : (Jvm.Cond.fieldLink "VisitingHoursModel" (205 : Nat) "VisitingHoursModel" "acted" "I") ∈ lw_all := lw_g (lw_at lw_m9 71 rfl) rfl
theorem q2135 : (Jvm.Cond.fieldLink "VisitingHoursModel" (22 : Nat) "VisitingHoursModel" "tape" "[I") ∈ lw_all := lw_g (lw_at lw_m9 72 rfl) rfl
theorem q2136 : (Jvm.Cond.fieldLink "VisitingHoursModel" (81 : Nat) "VisitingHoursModel" "taped" "I") ∈ lw_all := lw_g (lw_at lw_m9 73 rfl) rfl
theorem q2137 : (Jvm.Cond.fieldLink "VisitingHoursModel" (84 : Nat) "VisitingHoursModel" "base" "I") ∈ lw_all := lw_g (lw_at lw_m9 74 rfl) rfl
theorem q2138 : (Jvm.Cond.fieldLink "VisitingHoursModel" (90 : Nat) "VisitingHoursModel" "end" "I") ∈ lw_all := lw_g (lw_at lw_m9 75 rfl) rfl
theorem q2139 : (Jvm.Cond.fieldLink "VisitingHoursModel" (87 : Nat) "VisitingHoursModel" "at" "I") ∈ lw_all := lw_g (lw_at lw_m9 76 rfl) rfl
theorem q2140 : (Jvm.Cond.fieldLink "VisitingHoursModel" (25 : Nat) "VisitingHoursModel" "fault" "I") ∈ lw_all := lw_g (lw_at lw_m9 77 rfl) rfl
theorem q2141 : (Jvm.Cond.fieldLink "VisitingHoursModel" (179 : Nat) "VisitingHoursModel" "deep" "I") ∈ lw_all := lw_g (lw_at lw_m9 78 rfl) rfl
theorem q2142 : (Jvm.Cond.fieldLink "VisitingHoursModel" (29 : Nat) "VisitingHoursModel" "fact" "[I") ∈ lw_all := lw_g (lw_at lw_m9 79 rfl) rfl
theorem q2143 : (Jvm.Cond.fieldLink "VisitingHoursModel" (221 : Nat) "VisitingHoursModel" "isMarked" "Z") ∈ lw_all := lw_g (lw_at lw_m9 80 rfl) rfl
theorem q2144 : (Jvm.Cond.fieldLink "VisitingHoursModel" (227 : Nat) "VisitingHoursModel" "isExpected" "Z") ∈ lw_all := lw_g (lw_at lw_m9 81 rfl) rfl
theorem q2145 : (Jvm.Cond.fieldLink "VisitingHoursModel" (266 : Nat) "VisitingHoursModel" "glad" "I") ∈ lw_all := lw_g (lw_at lw_m9 82 rfl) rfl
theorem q2146 : (Jvm.Cond.fieldLink "VisitingHoursModel" (260 : Nat) "VisitingHoursModel" "hasAdmit" "Z") ∈ lw_all := lw_g (lw_at lw_m9 83 rfl) rfl
theorem q2147 : (Jvm.Cond.fieldLink "VisitingHoursModel" (263 : Nat) "VisitingHoursModel" "admits" "Z") ∈ lw_all := lw_g (lw_at lw_m9 84 rfl) rfl
theorem q2148 : (Jvm.Cond.fieldLink "VisitingHoursModel" (294 : Nat) "VisitingHoursModel" "settled" "I") ∈ lw_all := lw_g (lw_at lw_m9 85 rfl) rfl
theorem q2149 : (Jvm.Cond.fieldLink "VisitingHoursModel" (32 : Nat) "VisitingHoursModel" "guestOf" "[I") ∈ lw_all := lw_g (lw_at lw_m9 86 rfl) rfl
theorem q2150 : (Jvm.Cond.fieldLink "VisitingHoursModel" (35 : Nat) "VisitingHoursModel" "hostOf" "[I") ∈ lw_all := lw_g (lw_at lw_m9 87 rfl) rfl
theorem q2151 : (Jvm.Cond.fieldLink "VisitingHoursModel" (38 : Nat) "VisitingHoursModel" "refused" "[I") ∈ lw_all := lw_g (lw_at lw_m9 88 rfl) rfl
theorem q2152 : (Jvm.Cond.fieldLink "VisitingHoursModel" (41 : Nat) "VisitingHoursModel" "best" "[I") ∈ lw_all := lw_g (lw_at lw_m9 89 rfl) rfl
theorem q2153 : (Jvm.Cond.fieldLink "VisitingHoursModel" (44 : Nat) "VisitingHoursModel" "wide" "[I") ∈ lw_all := lw_g (lw_at lw_m9 90 rfl) rfl
theorem q2154 : (Jvm.Cond.fieldLink "VisitingHoursModel" (47 : Nat) "VisitingHoursModel" "fits" "[Z") ∈ lw_all := lw_g (lw_at lw_m9 91 rfl) rfl
theorem q2155 : (Jvm.Cond.fieldLink "VisitingHoursModel" (51 : Nat) "VisitingHoursModel" "can" "[Z") ∈ lw_all := lw_g (lw_at lw_m9 92 rfl) rfl
theorem q2156 : (Jvm.Cond.lays "VisitingHoursModel" "VisitingHoursModel" "thrown" "I") ∈ lw_all := lw_g (lw_at lw_m9 93 rfl) rfl
theorem q2157 : (Jvm.Cond.soleField "VisitingHoursModel" "thrown") ∈ lw_all := lw_g (lw_at lw_m9 94 rfl) rfl
theorem q2158 : (Jvm.Cond.laysFinal "VisitingHoursModel" "VisitingHoursModel" "m" "[I") ∈ lw_all := lw_g (lw_at lw_m9 95 rfl) rfl
theorem q2159 : (Jvm.Cond.soleField "VisitingHoursModel" "m") ∈ lw_all := lw_g (lw_at lw_m9 96 rfl) rfl
theorem q2160 : (Jvm.Cond.laysFinal "VisitingHoursModel" "VisitingHoursModel" "kept" "[I") ∈ lw_all := lw_g (lw_at lw_m9 97 rfl) rfl
theorem q2161 : (Jvm.Cond.soleField "VisitingHoursModel" "kept") ∈ lw_all := lw_g (lw_at lw_m9 98 rfl) rfl
theorem q2162 : (Jvm.Cond.lays "VisitingHoursModel" "VisitingHoursModel" "hasImage" "Z") ∈ lw_all := lw_g (lw_at lw_m9 99 rfl) rfl
theorem q2163 : (Jvm.Cond.soleField "VisitingHoursModel" "hasImage") ∈ lw_all := lw_g (lw_at lw_m9 100 rfl) rfl
theorem q2164 : (Jvm.Cond.laysFinal "VisitingHoursModel" "VisitingHoursModel" "aside" "[I") ∈ lw_all := lw_g (lw_at lw_m9 101 rfl) rfl
theorem q2165 : (Jvm.Cond.soleField "VisitingHoursModel" "aside") ∈ lw_all := lw_g (lw_at lw_m9 102 rfl) rfl
theorem q2166 : (Jvm.Cond.laysFinal "VisitingHoursModel" "VisitingHoursModel" "acts" "[I") ∈ lw_all := lw_g (lw_at lw_m9 103 rfl) rfl
theorem q2167 : (Jvm.Cond.soleField "VisitingHoursModel" "acts") ∈ lw_all := lw_g (lw_at lw_m9 104 rfl) rfl
theorem q2168 : (Jvm.Cond.lays "VisitingHoursModel" "VisitingHoursModel" "acted" "I") ∈ lw_all := lw_g (lw_at lw_m9 105 rfl) rfl
theorem q2169 : (Jvm.Cond.soleField "VisitingHoursModel" "acted") ∈ lw_all := lw_g (lw_at lw_m9 106 rfl) rfl
theorem q2170 : (Jvm.Cond.laysFinal "VisitingHoursModel" "VisitingHoursModel" "tape" "[I") ∈ lw_all := lw_g (lw_at lw_m9 107 rfl) rfl
theorem q2171 : (Jvm.Cond.soleField "VisitingHoursModel" "tape") ∈ lw_all := lw_g (lw_at lw_m9 108 rfl) rfl
theorem q2172 : (Jvm.Cond.lays "VisitingHoursModel" "VisitingHoursModel" "taped" "I") ∈ lw_all := lw_g (lw_at lw_m9 109 rfl) rfl
theorem q2173 : (Jvm.Cond.soleField "VisitingHoursModel" "taped") ∈ lw_all := lw_g (lw_at lw_m9 110 rfl) rfl
theorem q2174 : (Jvm.Cond.lays "VisitingHoursModel" "VisitingHoursModel" "base" "I") ∈ lw_all := lw_g (lw_at lw_m9 111 rfl) rfl
theorem q2175 : (Jvm.Cond.soleField "VisitingHoursModel" "base") ∈ lw_all := lw_g (lw_at lw_m9 112 rfl) rfl
theorem q2176 : (Jvm.Cond.lays "VisitingHoursModel" "VisitingHoursModel" "end" "I") ∈ lw_all := lw_g (lw_at lw_m9 113 rfl) rfl
theorem q2177 : (Jvm.Cond.soleField "VisitingHoursModel" "end") ∈ lw_all := lw_g (lw_at lw_m9 114 rfl) rfl
theorem q2178 : (Jvm.Cond.lays "VisitingHoursModel" "VisitingHoursModel" "at" "I") ∈ lw_all := lw_g (lw_at lw_m9 115 rfl) rfl
theorem q2179 : (Jvm.Cond.soleField "VisitingHoursModel" "at") ∈ lw_all := lw_g (lw_at lw_m9 116 rfl) rfl
theorem q2180 : (Jvm.Cond.lays "VisitingHoursModel" "VisitingHoursModel" "fault" "I") ∈ lw_all := lw_g (lw_at lw_m9 117 rfl) rfl
theorem q2181 : (Jvm.Cond.soleField "VisitingHoursModel" "fault") ∈ lw_all := lw_g (lw_at lw_m9 118 rfl) rfl
theorem q2182 : (Jvm.Cond.lays "VisitingHoursModel" "VisitingHoursModel" "deep" "I") ∈ lw_all := lw_g (lw_at lw_m9 119 rfl) rfl
theorem q2183 : (Jvm.Cond.soleField "VisitingHoursModel" "deep") ∈ lw_all := lw_g (lw_at lw_m9 120 rfl) rfl
theorem q2184 : (Jvm.Cond.laysFinal "VisitingHoursModel" "VisitingHoursModel" "fact" "[I") ∈ lw_all := lw_g (lw_at lw_m9 121 rfl) rfl
theorem q2185 : (Jvm.Cond.soleField "VisitingHoursModel" "fact") ∈ lw_all := lw_g (lw_at lw_m9 122 rfl) rfl
theorem q2186 : (Jvm.Cond.lays "VisitingHoursModel" "VisitingHoursModel" "isMarked" "Z") ∈ lw_all := lw_g (lw_at lw_m9 123 rfl) rfl
theorem q2187 : (Jvm.Cond.soleField "VisitingHoursModel" "isMarked") ∈ lw_all := lw_g (lw_at lw_m9 124 rfl) rfl
theorem q2188 : (Jvm.Cond.lays "VisitingHoursModel" "VisitingHoursModel" "isExpected" "Z") ∈ lw_all := lw_g (lw_at lw_m9 125 rfl) rfl
theorem q2189 : (Jvm.Cond.soleField "VisitingHoursModel" "isExpected") ∈ lw_all := lw_g (lw_at lw_m9 126 rfl) rfl
theorem q2190 : (Jvm.Cond.lays "VisitingHoursModel" "VisitingHoursModel" "glad" "I") ∈ lw_all := lw_g (lw_at lw_m9 127 rfl) rfl
theorem q2191 : (Jvm.Cond.soleField "VisitingHoursModel" "glad") ∈ lw_all := lw_g (lw_at lw_m9 128 rfl) rfl
theorem q2192 : (Jvm.Cond.lays "VisitingHoursModel" "VisitingHoursModel" "hasAdmit" "Z") ∈ lw_all := lw_g (lw_at lw_m9 129 rfl) rfl
theorem q2193 : (Jvm.Cond.soleField "VisitingHoursModel" "hasAdmit") ∈ lw_all := lw_g (lw_at lw_m9 130 rfl) rfl
theorem q2194 : (Jvm.Cond.lays "VisitingHoursModel" "VisitingHoursModel" "admits" "Z") ∈ lw_all := lw_g (lw_at lw_m9 131 rfl) rfl
theorem q2195 : (Jvm.Cond.soleField "VisitingHoursModel" "admits") ∈ lw_all := lw_g (lw_at lw_m9 132 rfl) rfl
theorem q2196 : (Jvm.Cond.lays "VisitingHoursModel" "VisitingHoursModel" "settled" "I") ∈ lw_all := lw_g (lw_at lw_m9 133 rfl) rfl
theorem q2197 : (Jvm.Cond.soleField "VisitingHoursModel" "settled") ∈ lw_all := lw_g (lw_at lw_m9 134 rfl) rfl
theorem q2198 : (Jvm.Cond.laysFinal "VisitingHoursModel" "VisitingHoursModel" "guestOf" "[I") ∈ lw_all := lw_g (lw_at lw_m9 135 rfl) rfl
theorem q2199 : (Jvm.Cond.soleField "VisitingHoursModel" "guestOf") ∈ lw_all := lw_g (lw_at lw_m9 136 rfl) rfl
theorem q2200 : (Jvm.Cond.laysFinal "VisitingHoursModel" "VisitingHoursModel" "hostOf" "[I") ∈ lw_all := lw_g (lw_at lw_m9 137 rfl) rfl
theorem q2201 : (Jvm.Cond.soleField "VisitingHoursModel" "hostOf") ∈ lw_all := lw_g (lw_at lw_m9 138 rfl) rfl
theorem q2202 : (Jvm.Cond.laysFinal "VisitingHoursModel" "VisitingHoursModel" "refused" "[I") ∈ lw_all := lw_g (lw_at lw_m9 139 rfl) rfl
theorem q2203 : (Jvm.Cond.soleField "VisitingHoursModel" "refused") ∈ lw_all := lw_g (lw_at lw_m9 140 rfl) rfl
theorem q2204 : (Jvm.Cond.laysFinal "VisitingHoursModel" "VisitingHoursModel" "best" "[I") ∈ lw_all := lw_g (lw_at lw_m9 141 rfl) rfl
theorem q2205 : (Jvm.Cond.soleField "VisitingHoursModel" "best") ∈ lw_all := lw_g (lw_at lw_m9 142 rfl) rfl
theorem q2206 : (Jvm.Cond.laysFinal "VisitingHoursModel" "VisitingHoursModel" "wide" "[I") ∈ lw_all := lw_g (lw_at lw_m9 143 rfl) rfl
theorem q2207 : (Jvm.Cond.soleField "VisitingHoursModel" "wide") ∈ lw_all := lw_g (lw_at lw_m9 144 rfl) rfl
theorem q2208 : (Jvm.Cond.laysFinal "VisitingHoursModel" "VisitingHoursModel" "fits" "[Z") ∈ lw_all := lw_g (lw_at lw_m9 145 rfl) rfl
theorem q2209 : (Jvm.Cond.soleField "VisitingHoursModel" "fits") ∈ lw_all := lw_g (lw_at lw_m9 146 rfl) rfl
theorem q2210 : (Jvm.Cond.laysFinal "VisitingHoursModel" "VisitingHoursModel" "can" "[Z") ∈ lw_all := lw_g (lw_at lw_m9 147 rfl) rfl
theorem q2211 : (Jvm.Cond.soleField "VisitingHoursModel" "can") ∈ lw_all := lw_g (lw_at lw_m9 148 rfl) rfl
theorem q2212 : (Jvm.Cond.superclass "VisitingHoursModel" "java/lang/Object") ∈ lw_all := lw_g (lw_at lw_m9 149 rfl) rfl
theorem q2215 : (Jvm.Cond.instanceMethod ({ cls := "VisitingHoursModel", name := "thrown", desc := "()I" } : Jvm.MethodName)) ∈ lw_all := lw_g (lw_at lw_m9 152 rfl) rfl
theorem q2216 : (Jvm.Cond.selects "VisitingHoursModel" ({ cls := "VisitingHoursModel", name := "thrown", desc := "()I" } : Jvm.MethodName) ({ cls := "VisitingHoursModel", name := "thrown", desc := "()I" } : Jvm.MethodName)) ∈ lw_all := lw_g (lw_at lw_m9 153 rfl) rfl
theorem q2217 : (Jvm.Cond.code ({ cls := "VisitingHoursModel", name := "thrown", desc := "()I" } : Jvm.MethodName) prog_19_method_2_code (1 : Nat) (Option.some Jvm.ClassFile.FieldType.int)) ∈ lw_all := lw_g (lw_at lw_m9 154 rfl) rfl
theorem q2219 : (Jvm.Cond.instanceMethod ({ cls := "VisitingHoursModel", name := "feed", desc := "(IIIII)I" } : Jvm.MethodName)) ∈ lw_all := lw_g (lw_at lw_m9 156 rfl) rfl
theorem q2220 : (Jvm.Cond.selects "VisitingHoursModel" ({ cls := "VisitingHoursModel", name := "feed", desc := "(IIIII)I" } : Jvm.MethodName) ({ cls := "VisitingHoursModel", name := "feed", desc := "(IIIII)I" } : Jvm.MethodName)) ∈ lw_all := lw_g (lw_at lw_m9 157 rfl) rfl
theorem q2221 : (Jvm.Cond.code ({ cls := "VisitingHoursModel", name := "feed", desc := "(IIIII)I" } : Jvm.MethodName) prog_19_method_20_code (8 : Nat) (Option.some Jvm.ClassFile.FieldType.int)) ∈ lw_all := lw_g (lw_at lw_m9 158 rfl) rfl
theorem q2223 : (Jvm.Cond.instanceMethod ({ cls := "VisitingHoursModel", name := "end", desc := "(I)Z" } : Jvm.MethodName)) ∈ lw_all := lw_g (lw_at lw_m9 160 rfl) rfl
theorem q2224 : (Jvm.Cond.selects "VisitingHoursModel" ({ cls := "VisitingHoursModel", name := "end", desc := "(I)Z" } : Jvm.MethodName) ({ cls := "VisitingHoursModel", name := "end", desc := "(I)Z" } : Jvm.MethodName)) ∈ lw_all := lw_g (lw_at lw_m9 161 rfl) rfl
theorem q2225 : (Jvm.Cond.code ({ cls := "VisitingHoursModel", name := "end", desc := "(I)Z" } : Jvm.MethodName) prog_19_method_21_code (2 : Nat) (Option.some Jvm.ClassFile.FieldType.boolean)) ∈ lw_all := lw_g (lw_at lw_m9 162 rfl) rfl
theorem q2226 : (Jvm.Cond.methodLink "VisitingHoursModel" (57 : Nat) ({ cls := "VisitingHoursModel", name := "isIn", desc := "(III)Z" } : Jvm.MethodName)) ∈ lw_all := lw_g (lw_at lw_m9 163 rfl) rfl
theorem q2227 : (Jvm.Cond.static ({ cls := "VisitingHoursModel", name := "isIn", desc := "(III)Z" } : Jvm.MethodName)) ∈ lw_all := lw_g (lw_at lw_m9 164 rfl) rfl
theorem q2228 : (Jvm.Cond.code ({ cls := "VisitingHoursModel", name := "isIn", desc := "(III)Z" } : Jvm.MethodName) prog_19_method_3_code (3 : Nat) (Option.some Jvm.ClassFile.FieldType.boolean)) ∈ lw_all := lw_g (lw_at lw_m9 165 rfl) rfl
theorem q2230 : (Jvm.Cond.instanceMethod ({ cls := "VisitingHoursModel", name := "ground", desc := "()I" } : Jvm.MethodName)) ∈ lw_all := lw_g (lw_at lw_m9 167 rfl) rfl
theorem q2231 : (Jvm.Cond.selects "VisitingHoursModel" ({ cls := "VisitingHoursModel", name := "ground", desc := "()I" } : Jvm.MethodName) ({ cls := "VisitingHoursModel", name := "ground", desc := "()I" } : Jvm.MethodName)) ∈ lw_all := lw_g (lw_at lw_m9 168 rfl) rfl
theorem q2232 : (Jvm.Cond.code ({ cls := "VisitingHoursModel", name := "ground", desc := "()I" } : Jvm.MethodName) prog_19_method_41_code (2 : Nat) (Option.some Jvm.ClassFile.FieldType.int)) ∈ lw_all := lw_g (lw_at lw_m9 169 rfl) rfl
theorem q2233 : (Jvm.Cond.methodLink "VisitingHoursModel" (192 : Nat) ({ cls := "VisitingHoursModel", name := "putsAside", desc := "()V" } : Jvm.MethodName)) ∈ lw_all := lw_g (lw_at lw_m9 170 rfl) rfl
theorem q2234 : (Jvm.Cond.privateMethod ({ cls := "VisitingHoursModel", name := "putsAside", desc := "()V" } : Jvm.MethodName)) ∈ lw_tbl := lw_at lw_m9 171 rfl
theorem q2235 : (Jvm.Cond.instanceMethod ({ cls := "VisitingHoursModel", name := "putsAside", desc := "()V" } : Jvm.MethodName)) ∈ lw_all := lw_g (lw_at lw_m9 172 rfl) rfl
theorem q2236 : (Jvm.Cond.code ({ cls := "VisitingHoursModel", name := "putsAside", desc := "()V" } : Jvm.MethodName) prog_19_method_39_code (2 : Nat) (Option.none : Option Jvm.ClassFile.FieldType)) ∈ lw_all := lw_g (lw_at lw_m9 173 rfl) rfl
theorem q2237 : (Jvm.Cond.methodLink "VisitingHoursModel" (195 : Nat) ({ cls := "VisitingHoursModel", name := "begins", desc := "()V" } : Jvm.MethodName)) ∈ lw_all := lw_g (lw_at lw_m9 174 rfl) rfl
theorem q2238 : (Jvm.Cond.privateMethod ({ cls := "VisitingHoursModel", name := "begins", desc := "()V" } : Jvm.MethodName)) ∈ lw_tbl := lw_at lw_m9 175 rfl
theorem q2239 : (Jvm.Cond.instanceMethod ({ cls := "VisitingHoursModel", name := "begins", desc := "()V" } : Jvm.MethodName)) ∈ lw_all := lw_g (lw_at lw_m9 176 rfl) rfl
theorem q2240 : (Jvm.Cond.code ({ cls := "VisitingHoursModel", name := "begins", desc := "()V" } : Jvm.MethodName) prog_19_method_37_code (1 : Nat) (Option.none : Option Jvm.ClassFile.FieldType)) ∈ lw_all := lw_g (lw_at lw_m9 177 rfl) rfl
theorem q2241 : (Jvm.Cond.methodLink "VisitingHoursModel" (198 : Nat) ({ cls := "VisitingHoursModel", name := "read", desc := "(Z)I" } : Jvm.MethodName)) ∈ lw_all := lw_g (lw_at lw_m9 178 rfl) rfl
theorem q2242 : (Jvm.Cond.privateMethod ({ cls := "VisitingHoursModel", name := "read", desc := "(Z)I" } : Jvm.MethodName)) ∈ lw_tbl := lw_at lw_m9 179 rfl
theorem q2243 : (Jvm.Cond.instanceMethod ({ cls := "VisitingHoursModel", name := "read", desc := "(Z)I" } : Jvm.MethodName)) ∈ lw_all := lw_g (lw_at lw_m9 180 rfl) rfl
theorem q2244 : (Jvm.Cond.code ({ cls := "VisitingHoursModel", name := "read", desc := "(Z)I" } : Jvm.MethodName) prog_19_method_38_code (4 : Nat) (Option.some Jvm.ClassFile.FieldType.int)) ∈ lw_all := lw_g (lw_at lw_m9 181 rfl) rfl
theorem q2245 : (Jvm.Cond.methodLink "VisitingHoursModel" (97 : Nat) ({ cls := "VisitingHoursModel", name := "skip", desc := "()V" } : Jvm.MethodName)) ∈ lw_all := lw_g (lw_at lw_m9 182 rfl) rfl
theorem q2246 : (Jvm.Cond.privateMethod ({ cls := "VisitingHoursModel", name := "skip", desc := "()V" } : Jvm.MethodName)) ∈ lw_tbl := lw_at lw_m9 183 rfl
theorem q2247 : (Jvm.Cond.instanceMethod ({ cls := "VisitingHoursModel", name := "skip", desc := "()V" } : Jvm.MethodName)) ∈ lw_all := lw_g (lw_at lw_m9 184 rfl) rfl
theorem q2248 : (Jvm.Cond.code ({ cls := "VisitingHoursModel", name := "skip", desc := "()V" } : Jvm.MethodName) prog_19_method_23_code (1 : Nat) (Option.none : Option Jvm.ClassFile.FieldType)) ∈ lw_all := lw_g (lw_at lw_m9 185 rfl) rfl
theorem q2249 : (Jvm.Cond.methodLink "VisitingHoursModel" (93 : Nat) ({ cls := "VisitingHoursModel", name := "letter", desc := "(I)I" } : Jvm.MethodName)) ∈ lw_all := lw_g (lw_at lw_m9 186 rfl) rfl
theorem q2250 : (Jvm.Cond.privateMethod ({ cls := "VisitingHoursModel", name := "letter", desc := "(I)I" } : Jvm.MethodName)) ∈ lw_tbl := lw_at lw_m9 187 rfl
theorem q2251 : (Jvm.Cond.instanceMethod ({ cls := "VisitingHoursModel", name := "letter", desc := "(I)I" } : Jvm.MethodName)) ∈ lw_all := lw_g (lw_at lw_m9 188 rfl) rfl
theorem q2252 : (Jvm.Cond.code ({ cls := "VisitingHoursModel", name := "letter", desc := "(I)I" } : Jvm.MethodName) prog_19_method_22_code (2 : Nat) (Option.some Jvm.ClassFile.FieldType.int)) ∈ lw_all := lw_g (lw_at lw_m9 189 rfl) rfl
theorem q2253 : (Jvm.Cond.methodLink "VisitingHoursModel" (113 : Nat) ({ cls := "VisitingHoursModel", name := "wrong", desc := "(I)V" } : Jvm.MethodName)) ∈ lw_all := lw_g (lw_at lw_m9 190 rfl) rfl
theorem q2254 : (Jvm.Cond.privateMethod ({ cls := "VisitingHoursModel", name := "wrong", desc := "(I)V" } : Jvm.MethodName)) ∈ lw_tbl := lw_at lw_m9 191 rfl
theorem q2255 : (Jvm.Cond.instanceMethod ({ cls := "VisitingHoursModel", name := "wrong", desc := "(I)V" } : Jvm.MethodName)) ∈ lw_all := lw_g (lw_at lw_m9 192 rfl) rfl
theorem q2256 : (Jvm.Cond.code ({ cls := "VisitingHoursModel", name := "wrong", desc := "(I)V" } : Jvm.MethodName) prog_19_method_26_code (2 : Nat) (Option.none : Option Jvm.ClassFile.FieldType)) ∈ lw_all := lw_g (lw_at lw_m9 193 rfl) rfl
theorem q2257 : (Jvm.Cond.methodLink "VisitingHoursModel" (182 : Nat) ({ cls := "VisitingHoursModel", name := "lawLine", desc := "()V" } : Jvm.MethodName)) ∈ lw_all := lw_g (lw_at lw_m9 194 rfl) rfl
theorem q2258 : (Jvm.Cond.privateMethod ({ cls := "VisitingHoursModel", name := "lawLine", desc := "()V" } : Jvm.MethodName)) ∈ lw_tbl := lw_at lw_m9 195 rfl
theorem q2259 : (Jvm.Cond.instanceMethod ({ cls := "VisitingHoursModel", name := "lawLine", desc := "()V" } : Jvm.MethodName)) ∈ lw_all := lw_g (lw_at lw_m9 196 rfl) rfl
theorem q2260 : (Jvm.Cond.code ({ cls := "VisitingHoursModel", name := "lawLine", desc := "()V" } : Jvm.MethodName) prog_19_method_48_code (4 : Nat) (Option.none : Option Jvm.ClassFile.FieldType)) ∈ lw_all := lw_g (lw_at lw_m9 197 rfl) rfl
theorem q2261 : (Jvm.Cond.stringRef "VisitingHoursModel" (252 : Nat) "glad") ∈ lw_tbl := lw_at lw_m9 198 rfl
theorem q2262 : (Jvm.Cond.methodLink "VisitingHoursModel" (117 : Nat) ({ cls := "VisitingHoursModel", name := "has", desc := "(Ljava/lang/String;)Z" } : Jvm.MethodName)) ∈ lw_all := lw_g (lw_at lw_m9 199 rfl) rfl
theorem q2263 : (Jvm.Cond.privateMethod ({ cls := "VisitingHoursModel", name := "has", desc := "(Ljava/lang/String;)Z" } : Jvm.MethodName)) ∈ lw_tbl := lw_at lw_m9 200 rfl
theorem q2264 : (Jvm.Cond.instanceMethod ({ cls := "VisitingHoursModel", name := "has", desc := "(Ljava/lang/String;)Z" } : Jvm.MethodName)) ∈ lw_all := lw_g (lw_at lw_m9 201 rfl) rfl
theorem q2265 : (Jvm.Cond.code ({ cls := "VisitingHoursModel", name := "has", desc := "(Ljava/lang/String;)Z" } : Jvm.MethodName) prog_19_method_25_code (4 : Nat) (Option.some Jvm.ClassFile.FieldType.boolean)) ∈ lw_all := lw_g (lw_at lw_m9 202 rfl) rfl
theorem q2266 : (Jvm.Cond.methodLink "VisitingHoursModel" (100 : Nat) ({ cls := "java/lang/String", name := "charAt", desc := "(I)C" } : Jvm.MethodName)) ∈ lw_all := lw_g (lw_at lw_m9 203 rfl) rfl
theorem q2267 : (Jvm.Cond.methodLink "VisitingHoursModel" (106 : Nat) ({ cls := "java/lang/String", name := "length", desc := "()I" } : Jvm.MethodName)) ∈ lw_all := lw_g (lw_at lw_m9 204 rfl) rfl
theorem q2268 : (Jvm.Cond.stringRef "VisitingHoursModel" (254 : Nat) "sour") ∈ lw_tbl := lw_at lw_m9 205 rfl
theorem q2269 : (Jvm.Cond.stringRef "VisitingHoursModel" (256 : Nat) "admit") ∈ lw_tbl := lw_at lw_m9 206 rfl
theorem q2270 : (Jvm.Cond.methodLink "VisitingHoursModel" (121 : Nat) ({ cls := "VisitingHoursModel", name := "figures", desc := "(II)I" } : Jvm.MethodName)) ∈ lw_all := lw_g (lw_at lw_m9 207 rfl) rfl
theorem q2271 : (Jvm.Cond.privateMethod ({ cls := "VisitingHoursModel", name := "figures", desc := "(II)I" } : Jvm.MethodName)) ∈ lw_tbl := lw_at lw_m9 208 rfl
theorem q2272 : (Jvm.Cond.instanceMethod ({ cls := "VisitingHoursModel", name := "figures", desc := "(II)I" } : Jvm.MethodName)) ∈ lw_all := lw_g (lw_at lw_m9 209 rfl) rfl
theorem q2273 : (Jvm.Cond.code ({ cls := "VisitingHoursModel", name := "figures", desc := "(II)I" } : Jvm.MethodName) prog_19_method_28_code (5 : Nat) (Option.some Jvm.ClassFile.FieldType.int)) ∈ lw_all := lw_g (lw_at lw_m9 210 rfl) rfl
theorem q2274 : (Jvm.Cond.methodLink "VisitingHoursModel" (110 : Nat) ({ cls := "VisitingHoursModel", name := "here", desc := "()I" } : Jvm.MethodName)) ∈ lw_all := lw_g (lw_at lw_m9 211 rfl) rfl
theorem q2275 : (Jvm.Cond.privateMethod ({ cls := "VisitingHoursModel", name := "here", desc := "()I" } : Jvm.MethodName)) ∈ lw_tbl := lw_at lw_m9 212 rfl
theorem q2276 : (Jvm.Cond.instanceMethod ({ cls := "VisitingHoursModel", name := "here", desc := "()I" } : Jvm.MethodName)) ∈ lw_all := lw_g (lw_at lw_m9 213 rfl) rfl
theorem q2277 : (Jvm.Cond.code ({ cls := "VisitingHoursModel", name := "here", desc := "()I" } : Jvm.MethodName) prog_19_method_27_code (1 : Nat) (Option.some Jvm.ClassFile.FieldType.int)) ∈ lw_all := lw_g (lw_at lw_m9 214 rfl) rfl
theorem q2278 : (Jvm.Cond.stringRef "VisitingHoursModel" (258 : Nat) "if") ∈ lw_tbl := lw_at lw_m9 215 rfl
theorem q2279 : (Jvm.Cond.methodLink "VisitingHoursModel" (242 : Nat) ({ cls := "VisitingHoursModel", name := "some", desc := "()Z" } : Jvm.MethodName)) ∈ lw_all := lw_g (lw_at lw_m9 216 rfl) rfl
theorem q2280 : (Jvm.Cond.privateMethod ({ cls := "VisitingHoursModel", name := "some", desc := "()Z" } : Jvm.MethodName)) ∈ lw_tbl := lw_at lw_m9 217 rfl
theorem q2281 : (Jvm.Cond.instanceMethod ({ cls := "VisitingHoursModel", name := "some", desc := "()Z" } : Jvm.MethodName)) ∈ lw_all := lw_g (lw_at lw_m9 218 rfl) rfl
theorem q2282 : (Jvm.Cond.code ({ cls := "VisitingHoursModel", name := "some", desc := "()Z" } : Jvm.MethodName) prog_19_method_47_code (3 : Nat) (Option.some Jvm.ClassFile.FieldType.boolean)) ∈ lw_all := lw_g (lw_at lw_m9 219 rfl) rfl
theorem q2283 : (Jvm.Cond.methodLink "VisitingHoursModel" (247 : Nat) ({ cls := "VisitingHoursModel", name := "every", desc := "()Z" } : Jvm.MethodName)) ∈ lw_all := lw_g (lw_at lw_m9 220 rfl) rfl
theorem q2284 : (Jvm.Cond.privateMethod ({ cls := "VisitingHoursModel", name := "every", desc := "()Z" } : Jvm.MethodName)) ∈ lw_tbl := lw_at lw_m9 221 rfl
theorem q2285 : (Jvm.Cond.instanceMethod ({ cls := "VisitingHoursModel", name := "every", desc := "()Z" } : Jvm.MethodName)) ∈ lw_all := lw_g (lw_at lw_m9 222 rfl) rfl
theorem q2286 : (Jvm.Cond.code ({ cls := "VisitingHoursModel", name := "every", desc := "()Z" } : Jvm.MethodName) prog_19_method_46_code (3 : Nat) (Option.some Jvm.ClassFile.FieldType.boolean)) ∈ lw_all := lw_g (lw_at lw_m9 223 rfl) rfl
theorem q2287 : (Jvm.Cond.methodLink "VisitingHoursModel" (239 : Nat) ({ cls := "VisitingHoursModel", name := "atom", desc := "()Z" } : Jvm.MethodName)) ∈ lw_all := lw_g (lw_at lw_m9 224 rfl) rfl
theorem q2288 : (Jvm.Cond.privateMethod ({ cls := "VisitingHoursModel", name := "atom", desc := "()Z" } : Jvm.MethodName)) ∈ lw_tbl := lw_at lw_m9 225 rfl
theorem q2289 : (Jvm.Cond.instanceMethod ({ cls := "VisitingHoursModel", name := "atom", desc := "()Z" } : Jvm.MethodName)) ∈ lw_all := lw_g (lw_at lw_m9 226 rfl) rfl
theorem q2290 : (Jvm.Cond.code ({ cls := "VisitingHoursModel", name := "atom", desc := "()Z" } : Jvm.MethodName) prog_19_method_45_code (4 : Nat) (Option.some Jvm.ClassFile.FieldType.boolean)) ∈ lw_all := lw_g (lw_at lw_m9 227 rfl) rfl
theorem q2291 : (Jvm.Cond.stringRef "VisitingHoursModel" (233 : Nat) "not") ∈ lw_tbl := lw_at lw_m9 228 rfl
theorem q2292 : (Jvm.Cond.methodLink "VisitingHoursModel" (188 : Nat) ({ cls := "VisitingHoursModel", name := "isSign", desc := "(I)Z" } : Jvm.MethodName)) ∈ lw_all := lw_g (lw_at lw_m9 229 rfl) rfl
theorem q2293 : (Jvm.Cond.privateMethod ({ cls := "VisitingHoursModel", name := "isSign", desc := "(I)Z" } : Jvm.MethodName)) ∈ lw_tbl := lw_at lw_m9 230 rfl
theorem q2294 : (Jvm.Cond.instanceMethod ({ cls := "VisitingHoursModel", name := "isSign", desc := "(I)Z" } : Jvm.MethodName)) ∈ lw_all := lw_g (lw_at lw_m9 231 rfl) rfl
theorem q2295 : (Jvm.Cond.code ({ cls := "VisitingHoursModel", name := "isSign", desc := "(I)Z" } : Jvm.MethodName) prog_19_method_24_code (2 : Nat) (Option.some Jvm.ClassFile.FieldType.boolean)) ∈ lw_all := lw_g (lw_at lw_m9 232 rfl) rfl
theorem q2296 : (Jvm.Cond.methodLink "VisitingHoursModel" (235 : Nat) ({ cls := "VisitingHoursModel", name := "plain", desc := "()Z" } : Jvm.MethodName)) ∈ lw_all := lw_g (lw_at lw_m9 233 rfl) rfl
theorem q2297 : (Jvm.Cond.privateMethod ({ cls := "VisitingHoursModel", name := "plain", desc := "()Z" } : Jvm.MethodName)) ∈ lw_tbl := lw_at lw_m9 234 rfl
theorem q2298 : (Jvm.Cond.instanceMethod ({ cls := "VisitingHoursModel", name := "plain", desc := "()Z" } : Jvm.MethodName)) ∈ lw_all := lw_g (lw_at lw_m9 235 rfl) rfl
theorem q2299 : (Jvm.Cond.code ({ cls := "VisitingHoursModel", name := "plain", desc := "()Z" } : Jvm.MethodName) prog_19_method_44_code (4 : Nat) (Option.some Jvm.ClassFile.FieldType.boolean)) ∈ lw_all := lw_g (lw_at lw_m9 236 rfl) rfl
theorem q2300 : (Jvm.Cond.stringRef "VisitingHoursModel" (219 : Nat) "marked") ∈ lw_tbl := lw_at lw_m9 237 rfl
theorem q2301 : (Jvm.Cond.stringRef "VisitingHoursModel" (225 : Nat) "expected") ∈ lw_tbl := lw_at lw_m9 238 rfl
theorem q2302 : (Jvm.Cond.methodLink "VisitingHoursModel" (230 : Nat) ({ cls := "VisitingHoursModel", name := "sum", desc := "()I" } : Jvm.MethodName)) ∈ lw_all := lw_g (lw_at lw_m9 239 rfl) rfl
theorem q2303 : (Jvm.Cond.privateMethod ({ cls := "VisitingHoursModel", name := "sum", desc := "()I" } : Jvm.MethodName)) ∈ lw_tbl := lw_at lw_m10 0 rfl
theorem q2304 : (Jvm.Cond.instanceMethod ({ cls := "VisitingHoursModel", name := "sum", desc := "()I" } : Jvm.MethodName)) ∈ lw_all := lw_g (lw_at lw_m10 1 rfl) rfl
theorem q2305 : (Jvm.Cond.code ({ cls := "VisitingHoursModel", name := "sum", desc := "()I" } : Jvm.MethodName) prog_19_method_43_code (2 : Nat) (Option.some Jvm.ClassFile.FieldType.int)) ∈ lw_all := lw_g (lw_at lw_m10 2 rfl) rfl
theorem q2306 : (Jvm.Cond.methodLink "VisitingHoursModel" (216 : Nat) ({ cls := "VisitingHoursModel", name := "part", desc := "()I" } : Jvm.MethodName)) ∈ lw_all := lw_g (lw_at lw_m10 3 rfl) rfl
theorem q2307 : (Jvm.Cond.privateMethod ({ cls := "VisitingHoursModel", name := "part", desc := "()I" } : Jvm.MethodName)) ∈ lw_tbl := lw_at lw_m10 4 rfl
theorem q2308 : (Jvm.Cond.instanceMethod ({ cls := "VisitingHoursModel", name := "part", desc := "()I" } : Jvm.MethodName)) ∈ lw_all := lw_g (lw_at lw_m10 5 rfl) rfl
theorem q2309 : (Jvm.Cond.code ({ cls := "VisitingHoursModel", name := "part", desc := "()I" } : Jvm.MethodName) prog_19_method_42_code (2 : Nat) (Option.some Jvm.ClassFile.FieldType.int)) ∈ lw_all := lw_g (lw_at lw_m10 6 rfl) rfl
theorem q2310 : (Jvm.Cond.stringRef "VisitingHoursModel" (151 : Nat) "host") ∈ lw_tbl := lw_at lw_m10 7 rfl
theorem q2311 : (Jvm.Cond.stringRef "VisitingHoursModel" (156 : Nat) "guest") ∈ lw_tbl := lw_at lw_m10 8 rfl
theorem q2312 : (Jvm.Cond.stringRef "VisitingHoursModel" (208 : Nat) "quarter") ∈ lw_tbl := lw_at lw_m10 9 rfl
theorem q2313 : (Jvm.Cond.stringRef "VisitingHoursModel" (210 : Nat) "lonely") ∈ lw_tbl := lw_at lw_m10 10 rfl
theorem q2314 : (Jvm.Cond.stringRef "VisitingHoursModel" (212 : Nat) "rank") ∈ lw_tbl := lw_at lw_m10 11 rfl
theorem q2315 : (Jvm.Cond.stringRef "VisitingHoursModel" (214 : Nat) "loved") ∈ lw_tbl := lw_at lw_m10 12 rfl
theorem q2316 : (Jvm.Cond.stringRef "VisitingHoursModel" (173 : Nat) "week") ∈ lw_tbl := lw_at lw_m10 13 rfl
theorem q2317 : (Jvm.Cond.stringRef "VisitingHoursModel" (245 : Nat) "and") ∈ lw_tbl := lw_at lw_m10 14 rfl
theorem q2318 : (Jvm.Cond.stringRef "VisitingHoursModel" (250 : Nat) "or") ∈ lw_tbl := lw_at lw_m10 15 rfl
theorem q2319 : (Jvm.Cond.methodLink "VisitingHoursModel" (185 : Nat) ({ cls := "VisitingHoursModel", name := "groundLine", desc := "()V" } : Jvm.MethodName)) ∈ lw_all := lw_g (lw_at lw_m10 16 rfl) rfl
theorem q2320 : (Jvm.Cond.privateMethod ({ cls := "VisitingHoursModel", name := "groundLine", desc := "()V" } : Jvm.MethodName)) ∈ lw_tbl := lw_at lw_m10 17 rfl
theorem q2321 : (Jvm.Cond.instanceMethod ({ cls := "VisitingHoursModel", name := "groundLine", desc := "()V" } : Jvm.MethodName)) ∈ lw_all := lw_g (lw_at lw_m10 18 rfl) rfl
theorem q2322 : (Jvm.Cond.code ({ cls := "VisitingHoursModel", name := "groundLine", desc := "()V" } : Jvm.MethodName) prog_19_method_36_code (3 : Nat) (Option.none : Option Jvm.ClassFile.FieldType)) ∈ lw_all := lw_g (lw_at lw_m10 19 rfl) rfl
theorem q2323 : (Jvm.Cond.methodLink "VisitingHoursModel" (153 : Nat) ({ cls := "VisitingHoursModel", name := "hostLine", desc := "(I)V" } : Jvm.MethodName)) ∈ lw_all := lw_g (lw_at lw_m10 20 rfl) rfl
theorem q2324 : (Jvm.Cond.privateMethod ({ cls := "VisitingHoursModel", name := "hostLine", desc := "(I)V" } : Jvm.MethodName)) ∈ lw_tbl := lw_at lw_m10 21 rfl
theorem q2325 : (Jvm.Cond.instanceMethod ({ cls := "VisitingHoursModel", name := "hostLine", desc := "(I)V" } : Jvm.MethodName)) ∈ lw_all := lw_g (lw_at lw_m10 22 rfl) rfl
theorem q2326 : (Jvm.Cond.code ({ cls := "VisitingHoursModel", name := "hostLine", desc := "(I)V" } : Jvm.MethodName) prog_19_method_32_code (5 : Nat) (Option.none : Option Jvm.ClassFile.FieldType)) ∈ lw_all := lw_g (lw_at lw_m10 23 rfl) rfl
theorem q2327 : (Jvm.Cond.stringRef "VisitingHoursModel" (135 : Nat) "patience") ∈ lw_tbl := lw_at lw_m10 24 rfl
theorem q2328 : (Jvm.Cond.methodLink "VisitingHoursModel" (129 : Nat) ({ cls := "VisitingHoursModel", name := "after", desc := "(Ljava/lang/String;II)I" } : Jvm.MethodName)) ∈ lw_all := lw_g (lw_at lw_m10 25 rfl) rfl
theorem q2329 : (Jvm.Cond.privateMethod ({ cls := "VisitingHoursModel", name := "after", desc := "(Ljava/lang/String;II)I" } : Jvm.MethodName)) ∈ lw_tbl := lw_at lw_m10 26 rfl
theorem q2330 : (Jvm.Cond.instanceMethod ({ cls := "VisitingHoursModel", name := "after", desc := "(Ljava/lang/String;II)I" } : Jvm.MethodName)) ∈ lw_all := lw_g (lw_at lw_m10 27 rfl) rfl
theorem q2331 : (Jvm.Cond.code ({ cls := "VisitingHoursModel", name := "after", desc := "(Ljava/lang/String;II)I" } : Jvm.MethodName) prog_19_method_29_code (4 : Nat) (Option.some Jvm.ClassFile.FieldType.int)) ∈ lw_all := lw_g (lw_at lw_m10 28 rfl) rfl
theorem q2332 : (Jvm.Cond.methodLink "VisitingHoursModel" (137 : Nat) ({ cls := "VisitingHoursModel", name := "hours", desc := "()I" } : Jvm.MethodName)) ∈ lw_all := lw_g (lw_at lw_m10 29 rfl) rfl
theorem q2333 : (Jvm.Cond.privateMethod ({ cls := "VisitingHoursModel", name := "hours", desc := "()I" } : Jvm.MethodName)) ∈ lw_tbl := lw_at lw_m10 30 rfl
theorem q2334 : (Jvm.Cond.instanceMethod ({ cls := "VisitingHoursModel", name := "hours", desc := "()I" } : Jvm.MethodName)) ∈ lw_all := lw_g (lw_at lw_m10 31 rfl) rfl
theorem q2335 : (Jvm.Cond.code ({ cls := "VisitingHoursModel", name := "hours", desc := "()I" } : Jvm.MethodName) prog_19_method_31_code (5 : Nat) (Option.some Jvm.ClassFile.FieldType.int)) ∈ lw_all := lw_g (lw_at lw_m10 32 rfl) rfl
theorem q2336 : (Jvm.Cond.stringRef "VisitingHoursModel" (127 : Nat) "from") ∈ lw_tbl := lw_at lw_m10 33 rfl
theorem q2337 : (Jvm.Cond.stringRef "VisitingHoursModel" (133 : Nat) "to") ∈ lw_tbl := lw_at lw_m10 34 rfl
theorem q2338 : (Jvm.Cond.methodLink "VisitingHoursModel" (140 : Nat) ({ cls := "VisitingHoursModel", name := "put", desc := "(III)V" } : Jvm.MethodName)) ∈ lw_all := lw_g (lw_at lw_m10 35 rfl) rfl
theorem q2339 : (Jvm.Cond.privateMethod ({ cls := "VisitingHoursModel", name := "put", desc := "(III)V" } : Jvm.MethodName)) ∈ lw_tbl := lw_at lw_m10 36 rfl
theorem q2340 : (Jvm.Cond.instanceMethod ({ cls := "VisitingHoursModel", name := "put", desc := "(III)V" } : Jvm.MethodName)) ∈ lw_all := lw_g (lw_at lw_m10 37 rfl) rfl
theorem q2341 : (Jvm.Cond.code ({ cls := "VisitingHoursModel", name := "put", desc := "(III)V" } : Jvm.MethodName) prog_19_method_9_code (4 : Nat) (Option.none : Option Jvm.ClassFile.FieldType)) ∈ lw_all := lw_g (lw_at lw_m10 38 rfl) rfl
theorem q2342 : (Jvm.Cond.methodLink "VisitingHoursModel" (158 : Nat) ({ cls := "VisitingHoursModel", name := "guestLine", desc := "(I)V" } : Jvm.MethodName)) ∈ lw_all := lw_g (lw_at lw_m10 39 rfl) rfl
theorem q2343 : (Jvm.Cond.privateMethod ({ cls := "VisitingHoursModel", name := "guestLine", desc := "(I)V" } : Jvm.MethodName)) ∈ lw_tbl := lw_at lw_m10 40 rfl
theorem q2344 : (Jvm.Cond.instanceMethod ({ cls := "VisitingHoursModel", name := "guestLine", desc := "(I)V" } : Jvm.MethodName)) ∈ lw_all := lw_g (lw_at lw_m10 41 rfl) rfl
theorem q2345 : (Jvm.Cond.code ({ cls := "VisitingHoursModel", name := "guestLine", desc := "(I)V" } : Jvm.MethodName) prog_19_method_33_code (6 : Nat) (Option.none : Option Jvm.ClassFile.FieldType)) ∈ lw_all := lw_g (lw_at lw_m10 42 rfl) rfl
theorem q2346 : (Jvm.Cond.stringRef "VisitingHoursModel" (144 : Nat) "stay") ∈ lw_tbl := lw_at lw_m10 43 rfl
theorem q2347 : (Jvm.Cond.stringRef "VisitingHoursModel" (146 : Nat) "marks") ∈ lw_tbl := lw_at lw_m10 44 rfl
theorem q2348 : (Jvm.Cond.methodLink "VisitingHoursModel" (148 : Nat) ({ cls := "VisitingHoursModel", name := "letters", desc := "()I" } : Jvm.MethodName)) ∈ lw_all := lw_g (lw_at lw_m10 45 rfl) rfl
theorem q2349 : (Jvm.Cond.privateMethod ({ cls := "VisitingHoursModel", name := "letters", desc := "()I" } : Jvm.MethodName)) ∈ lw_tbl := lw_at lw_m10 46 rfl
theorem q2350 : (Jvm.Cond.instanceMethod ({ cls := "VisitingHoursModel", name := "letters", desc := "()I" } : Jvm.MethodName)) ∈ lw_all := lw_g (lw_at lw_m10 47 rfl) rfl
theorem q2351 : (Jvm.Cond.code ({ cls := "VisitingHoursModel", name := "letters", desc := "()I" } : Jvm.MethodName) prog_19_method_30_code (5 : Nat) (Option.some Jvm.ClassFile.FieldType.int)) ∈ lw_all := lw_g (lw_at lw_m10 48 rfl) rfl
theorem q2352 : (Jvm.Cond.methodLink "VisitingHoursModel" (124 : Nat) ({ cls := "VisitingHoursModel", name := "lesser", desc := "(II)I" } : Jvm.MethodName)) ∈ lw_all := lw_g (lw_at lw_m10 49 rfl) rfl
theorem q2353 : (Jvm.Cond.static ({ cls := "VisitingHoursModel", name := "lesser", desc := "(II)I" } : Jvm.MethodName)) ∈ lw_all := lw_g (lw_at lw_m10 50 rfl) rfl
theorem q2354 : (Jvm.Cond.code ({ cls := "VisitingHoursModel", name := "lesser", desc := "(II)I" } : Jvm.MethodName) prog_19_method_4_code (2 : Nat) (Option.some Jvm.ClassFile.FieldType.int)) ∈ lw_all := lw_g (lw_at lw_m10 51 rfl) rfl
theorem q2355 : (Jvm.Cond.methodLink "VisitingHoursModel" (74 : Nat) ({ cls := "VisitingHoursModel", name := "isOf", desc := "(II)Z" } : Jvm.MethodName)) ∈ lw_all := lw_g (lw_at lw_m10 52 rfl) rfl
theorem q2356 : (Jvm.Cond.static ({ cls := "VisitingHoursModel", name := "isOf", desc := "(II)Z" } : Jvm.MethodName)) ∈ lw_all := lw_g (lw_at lw_m10 53 rfl) rfl
theorem q2357 : (Jvm.Cond.code ({ cls := "VisitingHoursModel", name := "isOf", desc := "(II)Z" } : Jvm.MethodName) prog_19_method_6_code (2 : Nat) (Option.some Jvm.ClassFile.FieldType.boolean)) ∈ lw_all := lw_g (lw_at lw_m10 54 rfl) rfl
theorem q2358 : (Jvm.Cond.stringRef "VisitingHoursModel" (161 : Nat) "likes") ∈ lw_tbl := lw_at lw_m10 55 rfl
theorem q2359 : (Jvm.Cond.methodLink "VisitingHoursModel" (163 : Nat) ({ cls := "VisitingHoursModel", name := "ranksLine", desc := "(III)V" } : Jvm.MethodName)) ∈ lw_all := lw_g (lw_at lw_m10 56 rfl) rfl
theorem q2360 : (Jvm.Cond.privateMethod ({ cls := "VisitingHoursModel", name := "ranksLine", desc := "(III)V" } : Jvm.MethodName)) ∈ lw_tbl := lw_at lw_m10 57 rfl
theorem q2361 : (Jvm.Cond.instanceMethod ({ cls := "VisitingHoursModel", name := "ranksLine", desc := "(III)V" } : Jvm.MethodName)) ∈ lw_all := lw_g (lw_at lw_m10 58 rfl) rfl
theorem q2362 : (Jvm.Cond.code ({ cls := "VisitingHoursModel", name := "ranksLine", desc := "(III)V" } : Jvm.MethodName) prog_19_method_34_code (8 : Nat) (Option.none : Option Jvm.ClassFile.FieldType)) ∈ lw_all := lw_g (lw_at lw_m10 59 rfl) rfl
theorem q2363 : (Jvm.Cond.stringRef "VisitingHoursModel" (166 : Nat) "loves") ∈ lw_tbl := lw_at lw_m10 60 rfl
theorem q2364 : (Jvm.Cond.stringRef "VisitingHoursModel" (168 : Nat) "rain") ∈ lw_tbl := lw_at lw_m10 61 rfl
theorem q2365 : (Jvm.Cond.methodLink "VisitingHoursModel" (170 : Nat) ({ cls := "VisitingHoursModel", name := "tells", desc := "(III)V" } : Jvm.MethodName)) ∈ lw_all := lw_g (lw_at lw_m10 62 rfl) rfl
theorem q2366 : (Jvm.Cond.privateMethod ({ cls := "VisitingHoursModel", name := "tells", desc := "(III)V" } : Jvm.MethodName)) ∈ lw_tbl := lw_at lw_m10 63 rfl
theorem q2367 : (Jvm.Cond.instanceMethod ({ cls := "VisitingHoursModel", name := "tells", desc := "(III)V" } : Jvm.MethodName)) ∈ lw_all := lw_g (lw_at lw_m10 64 rfl) rfl
theorem q2368 : (Jvm.Cond.code ({ cls := "VisitingHoursModel", name := "tells", desc := "(III)V" } : Jvm.MethodName) prog_19_method_35_code (5 : Nat) (Option.none : Option Jvm.ClassFile.FieldType)) ∈ lw_all := lw_g (lw_at lw_m10 65 rfl) rfl
theorem q2369 : (Jvm.Cond.stringRef "VisitingHoursModel" (175 : Nat) "needs") ∈ lw_tbl := lw_at lw_m10 66 rfl
theorem q2370 : (Jvm.Cond.stringRef "VisitingHoursModel" (177 : Nat) "bars") ∈ lw_tbl := lw_at lw_m10 67 rfl
theorem q2371 : (Jvm.Cond.methodLink "VisitingHoursModel" (202 : Nat) ({ cls := "VisitingHoursModel", name := "comesBack", desc := "()V" } : Jvm.MethodName)) ∈ lw_all := lw_g (lw_at lw_m10 68 rfl) rfl
theorem q2372 : (Jvm.Cond.privateMethod ({ cls := "VisitingHoursModel", name := "comesBack", desc := "()V" } : Jvm.MethodName)) ∈ lw_tbl := lw_at lw_m10 69 rfl
theorem q2373 : (Jvm.Cond.instanceMethod ({ cls := "VisitingHoursModel", name := "comesBack", desc := "()V" } : Jvm.MethodName)) ∈ lw_all := lw_g (lw_at lw_m10 70 rfl) rfl
theorem q2374 : (Jvm.Cond.code ({ cls := "VisitingHoursModel", name := "comesBack", desc := "()V" } : Jvm.MethodName) prog_19_method_40_code (2 : Nat) (Option.none : Option Jvm.ClassFile.FieldType)) ∈ lw_all := lw_g (lw_at lw_m10 71 rfl) rfl
theorem q2376 : (Jvm.Cond.instanceMethod ({ cls := "VisitingHoursModel", name := "law", desc := "()I" } : Jvm.MethodName)) ∈ lw_all := lw_g (lw_at lw_m10 73 rfl) rfl
theorem q2377 : (Jvm.Cond.selects "VisitingHoursModel" ({ cls := "VisitingHoursModel", name := "law", desc := "()I" } : Jvm.MethodName) ({ cls := "VisitingHoursModel", name := "law", desc := "()I" } : Jvm.MethodName)) ∈ lw_all := lw_g (lw_at lw_m10 74 rfl) rfl
theorem q2378 : (Jvm.Cond.code ({ cls := "VisitingHoursModel", name := "law", desc := "()I" } : Jvm.MethodName) prog_19_method_49_code (3 : Nat) (Option.some Jvm.ClassFile.FieldType.int)) ∈ lw_all := lw_g (lw_at lw_m10 75 rfl) rfl
theorem q2380 : (Jvm.Cond.instanceMethod ({ cls := "VisitingHoursModel", name := "fault", desc := "()I" } : Jvm.MethodName)) ∈ lw_all := lw_g (lw_at lw_m10 77 rfl) rfl
theorem q2381 : (Jvm.Cond.selects "VisitingHoursModel" ({ cls := "VisitingHoursModel", name := "fault", desc := "()I" } : Jvm.MethodName) ({ cls := "VisitingHoursModel", name := "fault", desc := "()I" } : Jvm.MethodName)) ∈ lw_all := lw_g (lw_at lw_m10 78 rfl) rfl
theorem q2382 : (Jvm.Cond.code ({ cls := "VisitingHoursModel", name := "fault", desc := "()I" } : Jvm.MethodName) prog_19_method_50_code (1 : Nat) (Option.some Jvm.ClassFile.FieldType.int)) ∈ lw_all := lw_g (lw_at lw_m10 79 rfl) rfl
theorem q2384 : (Jvm.Cond.instanceMethod ({ cls := "VisitingHoursModel", name := "host", desc := "(II)I" } : Jvm.MethodName)) ∈ lw_all := lw_g (lw_at lw_m10 81 rfl) rfl
theorem q2385 : (Jvm.Cond.selects "VisitingHoursModel" ({ cls := "VisitingHoursModel", name := "host", desc := "(II)I" } : Jvm.MethodName) ({ cls := "VisitingHoursModel", name := "host", desc := "(II)I" } : Jvm.MethodName)) ∈ lw_all := lw_g (lw_at lw_m10 82 rfl) rfl
theorem q2386 : (Jvm.Cond.code ({ cls := "VisitingHoursModel", name := "host", desc := "(II)I" } : Jvm.MethodName) prog_19_method_65_code (3 : Nat) (Option.some Jvm.ClassFile.FieldType.int)) ∈ lw_all := lw_g (lw_at lw_m10 83 rfl) rfl
theorem q2387 : (Jvm.Cond.methodLink "VisitingHoursModel" (310 : Nat) ({ cls := "VisitingHoursModel", name := "isHost", desc := "(I)Z" } : Jvm.MethodName)) ∈ lw_all := lw_g (lw_at lw_m10 84 rfl) rfl
theorem q2388 : (Jvm.Cond.privateMethod ({ cls := "VisitingHoursModel", name := "isHost", desc := "(I)Z" } : Jvm.MethodName)) ∈ lw_tbl := lw_at lw_m10 85 rfl
theorem q2389 : (Jvm.Cond.instanceMethod ({ cls := "VisitingHoursModel", name := "isHost", desc := "(I)Z" } : Jvm.MethodName)) ∈ lw_all := lw_g (lw_at lw_m10 86 rfl) rfl
theorem q2390 : (Jvm.Cond.code ({ cls := "VisitingHoursModel", name := "isHost", desc := "(I)Z" } : Jvm.MethodName) prog_19_method_14_code (2 : Nat) (Option.some Jvm.ClassFile.FieldType.boolean)) ∈ lw_all := lw_g (lw_at lw_m10 87 rfl) rfl
theorem q2391 : (Jvm.Cond.methodLink "VisitingHoursModel" (68 : Nat) ({ cls := "VisitingHoursModel", name := "of", desc := "(II)I" } : Jvm.MethodName)) ∈ lw_all := lw_g (lw_at lw_m10 88 rfl) rfl
theorem q2392 : (Jvm.Cond.privateMethod ({ cls := "VisitingHoursModel", name := "of", desc := "(II)I" } : Jvm.MethodName)) ∈ lw_tbl := lw_at lw_m10 89 rfl
theorem q2393 : (Jvm.Cond.instanceMethod ({ cls := "VisitingHoursModel", name := "of", desc := "(II)I" } : Jvm.MethodName)) ∈ lw_all := lw_g (lw_at lw_m10 90 rfl) rfl
theorem q2394 : (Jvm.Cond.code ({ cls := "VisitingHoursModel", name := "of", desc := "(II)I" } : Jvm.MethodName) prog_19_method_8_code (3 : Nat) (Option.some Jvm.ClassFile.FieldType.int)) ∈ lw_all := lw_g (lw_at lw_m10 91 rfl) rfl
theorem q2395 : (Jvm.Cond.methodLink "VisitingHoursModel" (313 : Nat) ({ cls := "VisitingHoursModel", name := "freeOf", desc := "(I)I" } : Jvm.MethodName)) ∈ lw_all := lw_g (lw_at lw_m10 92 rfl) rfl
theorem q2396 : (Jvm.Cond.privateMethod ({ cls := "VisitingHoursModel", name := "freeOf", desc := "(I)I" } : Jvm.MethodName)) ∈ lw_tbl := lw_at lw_m10 93 rfl
theorem q2397 : (Jvm.Cond.instanceMethod ({ cls := "VisitingHoursModel", name := "freeOf", desc := "(I)I" } : Jvm.MethodName)) ∈ lw_all := lw_g (lw_at lw_m10 94 rfl) rfl
theorem q2398 : (Jvm.Cond.code ({ cls := "VisitingHoursModel", name := "freeOf", desc := "(I)I" } : Jvm.MethodName) prog_19_method_60_code (4 : Nat) (Option.some Jvm.ClassFile.FieldType.int)) ∈ lw_all := lw_g (lw_at lw_m10 95 rfl) rfl
theorem q2399 : (Jvm.Cond.methodLink "VisitingHoursModel" (271 : Nat) ({ cls := "VisitingHoursModel", name := "bookedIn", desc := "(II)I" } : Jvm.MethodName)) ∈ lw_all := lw_g (lw_at lw_m10 96 rfl) rfl
theorem q2400 : (Jvm.Cond.privateMethod ({ cls := "VisitingHoursModel", name := "bookedIn", desc := "(II)I" } : Jvm.MethodName)) ∈ lw_tbl := lw_at lw_m10 97 rfl
theorem q2401 : (Jvm.Cond.instanceMethod ({ cls := "VisitingHoursModel", name := "bookedIn", desc := "(II)I" } : Jvm.MethodName)) ∈ lw_all := lw_g (lw_at lw_m10 98 rfl) rfl
theorem q2402 : (Jvm.Cond.code ({ cls := "VisitingHoursModel", name := "bookedIn", desc := "(II)I" } : Jvm.MethodName) prog_19_method_13_code (3 : Nat) (Option.some Jvm.ClassFile.FieldType.int)) ∈ lw_all := lw_g (lw_at lw_m10 99 rfl) rfl
theorem q2403 : (Jvm.Cond.methodLink "VisitingHoursModel" (316 : Nat) ({ cls := "VisitingHoursModel", name := "seesOf", desc := "(I)I" } : Jvm.MethodName)) ∈ lw_all := lw_g (lw_at lw_m10 100 rfl) rfl
theorem q2404 : (Jvm.Cond.privateMethod ({ cls := "VisitingHoursModel", name := "seesOf", desc := "(I)I" } : Jvm.MethodName)) ∈ lw_tbl := lw_at lw_m10 101 rfl
theorem q2405 : (Jvm.Cond.instanceMethod ({ cls := "VisitingHoursModel", name := "seesOf", desc := "(I)I" } : Jvm.MethodName)) ∈ lw_all := lw_g (lw_at lw_m10 102 rfl) rfl
theorem q2406 : (Jvm.Cond.code ({ cls := "VisitingHoursModel", name := "seesOf", desc := "(I)I" } : Jvm.MethodName) prog_19_method_61_code (4 : Nat) (Option.some Jvm.ClassFile.FieldType.int)) ∈ lw_all := lw_g (lw_at lw_m10 103 rfl) rfl
theorem q2407 : (Jvm.Cond.methodLink "VisitingHoursModel" (319 : Nat) ({ cls := "VisitingHoursModel", name := "gladness", desc := "()I" } : Jvm.MethodName)) ∈ lw_all := lw_g (lw_at lw_m10 104 rfl) rfl
theorem q2408 : (Jvm.Cond.privateMethod ({ cls := "VisitingHoursModel", name := "gladness", desc := "()I" } : Jvm.MethodName)) ∈ lw_tbl := lw_at lw_m10 105 rfl
theorem q2409 : (Jvm.Cond.instanceMethod ({ cls := "VisitingHoursModel", name := "gladness", desc := "()I" } : Jvm.MethodName)) ∈ lw_all := lw_g (lw_at lw_m10 106 rfl) rfl
theorem q2410 : (Jvm.Cond.code ({ cls := "VisitingHoursModel", name := "gladness", desc := "()I" } : Jvm.MethodName) prog_19_method_64_code (3 : Nat) (Option.some Jvm.ClassFile.FieldType.int)) ∈ lw_all := lw_g (lw_at lw_m10 107 rfl) rfl
theorem q2412 : (Jvm.Cond.instanceMethod ({ cls := "VisitingHoursModel", name := "guest", desc := "(II)I" } : Jvm.MethodName)) ∈ lw_all := lw_g (lw_at lw_m10 109 rfl) rfl
theorem q2413 : (Jvm.Cond.selects "VisitingHoursModel" ({ cls := "VisitingHoursModel", name := "guest", desc := "(II)I" } : Jvm.MethodName) ({ cls := "VisitingHoursModel", name := "guest", desc := "(II)I" } : Jvm.MethodName)) ∈ lw_all := lw_g (lw_at lw_m10 110 rfl) rfl
theorem q2414 : (Jvm.Cond.code ({ cls := "VisitingHoursModel", name := "guest", desc := "(II)I" } : Jvm.MethodName) prog_19_method_66_code (3 : Nat) (Option.some Jvm.ClassFile.FieldType.int)) ∈ lw_all := lw_g (lw_at lw_m10 111 rfl) rfl
theorem q2415 : (Jvm.Cond.methodLink "VisitingHoursModel" (322 : Nat) ({ cls := "VisitingHoursModel", name := "isGuest", desc := "(I)Z" } : Jvm.MethodName)) ∈ lw_all := lw_g (lw_at lw_m10 112 rfl) rfl
theorem q2416 : (Jvm.Cond.privateMethod ({ cls := "VisitingHoursModel", name := "isGuest", desc := "(I)Z" } : Jvm.MethodName)) ∈ lw_tbl := lw_at lw_m10 113 rfl
theorem q2417 : (Jvm.Cond.instanceMethod ({ cls := "VisitingHoursModel", name := "isGuest", desc := "(I)Z" } : Jvm.MethodName)) ∈ lw_all := lw_g (lw_at lw_m10 114 rfl) rfl
theorem q2418 : (Jvm.Cond.code ({ cls := "VisitingHoursModel", name := "isGuest", desc := "(I)Z" } : Jvm.MethodName) prog_19_method_15_code (2 : Nat) (Option.some Jvm.ClassFile.FieldType.boolean)) ∈ lw_all := lw_g (lw_at lw_m10 115 rfl) rfl
theorem q2419 : (Jvm.Cond.methodLink "VisitingHoursModel" (71 : Nat) ({ cls := "VisitingHoursModel", name := "ofGuest", desc := "(II)I" } : Jvm.MethodName)) ∈ lw_all := lw_g (lw_at lw_m10 116 rfl) rfl
theorem q2420 : (Jvm.Cond.privateMethod ({ cls := "VisitingHoursModel", name := "ofGuest", desc := "(II)I" } : Jvm.MethodName)) ∈ lw_tbl := lw_at lw_m10 117 rfl
theorem q2421 : (Jvm.Cond.instanceMethod ({ cls := "VisitingHoursModel", name := "ofGuest", desc := "(II)I" } : Jvm.MethodName)) ∈ lw_all := lw_g (lw_at lw_m10 118 rfl) rfl
theorem q2422 : (Jvm.Cond.code ({ cls := "VisitingHoursModel", name := "ofGuest", desc := "(II)I" } : Jvm.MethodName) prog_19_method_10_code (3 : Nat) (Option.some Jvm.ClassFile.FieldType.int)) ∈ lw_all := lw_g (lw_at lw_m10 119 rfl) rfl
theorem q2423 : (Jvm.Cond.methodLink "VisitingHoursModel" (325 : Nat) ({ cls := "VisitingHoursModel", name := "busyOf", desc := "(I)I" } : Jvm.MethodName)) ∈ lw_all := lw_g (lw_at lw_m10 120 rfl) rfl
theorem q2424 : (Jvm.Cond.privateMethod ({ cls := "VisitingHoursModel", name := "busyOf", desc := "(I)I" } : Jvm.MethodName)) ∈ lw_tbl := lw_at lw_m10 121 rfl
theorem q2425 : (Jvm.Cond.instanceMethod ({ cls := "VisitingHoursModel", name := "busyOf", desc := "(I)I" } : Jvm.MethodName)) ∈ lw_all := lw_g (lw_at lw_m10 122 rfl) rfl
theorem q2426 : (Jvm.Cond.code ({ cls := "VisitingHoursModel", name := "busyOf", desc := "(I)I" } : Jvm.MethodName) prog_19_method_62_code (5 : Nat) (Option.some Jvm.ClassFile.FieldType.int)) ∈ lw_all := lw_g (lw_at lw_m10 123 rfl) rfl
theorem q2427 : (Jvm.Cond.methodLink "VisitingHoursModel" (328 : Nat) ({ cls := "VisitingHoursModel", name := "likedOf", desc := "(I)I" } : Jvm.MethodName)) ∈ lw_all := lw_g (lw_at lw_m10 124 rfl) rfl
theorem q2428 : (Jvm.Cond.privateMethod ({ cls := "VisitingHoursModel", name := "likedOf", desc := "(I)I" } : Jvm.MethodName)) ∈ lw_tbl := lw_at lw_m10 125 rfl
theorem q2429 : (Jvm.Cond.instanceMethod ({ cls := "VisitingHoursModel", name := "likedOf", desc := "(I)I" } : Jvm.MethodName)) ∈ lw_all := lw_g (lw_at lw_m10 126 rfl) rfl
theorem q2430 : (Jvm.Cond.code ({ cls := "VisitingHoursModel", name := "likedOf", desc := "(I)I" } : Jvm.MethodName) prog_19_method_63_code (4 : Nat) (Option.some Jvm.ClassFile.FieldType.int)) ∈ lw_all := lw_g (lw_at lw_m10 127 rfl) rfl
theorem q2431 : (Jvm.Cond.methodLink "VisitingHoursModel" (61 : Nat) ({ cls := "VisitingHoursModel", name := "rankOf", desc := "(II)I" } : Jvm.MethodName)) ∈ lw_all := lw_g (lw_at lw_m10 128 rfl) rfl
theorem q2432 : (Jvm.Cond.privateMethod ({ cls := "VisitingHoursModel", name := "rankOf", desc := "(II)I" } : Jvm.MethodName)) ∈ lw_tbl := lw_at lw_m10 129 rfl
theorem q2433 : (Jvm.Cond.instanceMethod ({ cls := "VisitingHoursModel", name := "rankOf", desc := "(II)I" } : Jvm.MethodName)) ∈ lw_all := lw_g (lw_at lw_m10 130 rfl) rfl
theorem q2434 : (Jvm.Cond.code ({ cls := "VisitingHoursModel", name := "rankOf", desc := "(II)I" } : Jvm.MethodName) prog_19_method_11_code (3 : Nat) (Option.some Jvm.ClassFile.FieldType.int)) ∈ lw_all := lw_g (lw_at lw_m10 131 rfl) rfl
theorem q2435 : (Jvm.Cond.methodLink "VisitingHoursModel" (268 : Nat) ({ cls := "VisitingHoursModel", name := "passes", desc := "(I)Z" } : Jvm.MethodName)) ∈ lw_all := lw_g (lw_at lw_m10 132 rfl) rfl
theorem q2436 : (Jvm.Cond.privateMethod ({ cls := "VisitingHoursModel", name := "passes", desc := "(I)Z" } : Jvm.MethodName)) ∈ lw_tbl := lw_at lw_m10 133 rfl
theorem q2437 : (Jvm.Cond.instanceMethod ({ cls := "VisitingHoursModel", name := "passes", desc := "(I)Z" } : Jvm.MethodName)) ∈ lw_all := lw_g (lw_at lw_m10 134 rfl) rfl
theorem q2438 : (Jvm.Cond.code ({ cls := "VisitingHoursModel", name := "passes", desc := "(I)Z" } : Jvm.MethodName) prog_19_method_17_code (2 : Nat) (Option.some Jvm.ClassFile.FieldType.boolean)) ∈ lw_all := lw_g (lw_at lw_m10 135 rfl) rfl
theorem q2440 : (Jvm.Cond.instanceMethod ({ cls := "VisitingHoursModel", name := "rank", desc := "(IIZ)I" } : Jvm.MethodName)) ∈ lw_all := lw_g (lw_at lw_m10 137 rfl) rfl
theorem q2441 : (Jvm.Cond.selects "VisitingHoursModel" ({ cls := "VisitingHoursModel", name := "rank", desc := "(IIZ)I" } : Jvm.MethodName) ({ cls := "VisitingHoursModel", name := "rank", desc := "(IIZ)I" } : Jvm.MethodName)) ∈ lw_all := lw_g (lw_at lw_m10 138 rfl) rfl
theorem q2442 : (Jvm.Cond.code ({ cls := "VisitingHoursModel", name := "rank", desc := "(IIZ)I" } : Jvm.MethodName) prog_19_method_67_code (4 : Nat) (Option.some Jvm.ClassFile.FieldType.int)) ∈ lw_all := lw_g (lw_at lw_m10 139 rfl) rfl
theorem q2443 : (Jvm.Cond.methodLink "VisitingHoursModel" (65 : Nat) ({ cls := "VisitingHoursModel", name := "lovedOf", desc := "(II)I" } : Jvm.MethodName)) ∈ lw_all := lw_g (lw_at lw_m10 140 rfl) rfl
theorem q2444 : (Jvm.Cond.privateMethod ({ cls := "VisitingHoursModel", name := "lovedOf", desc := "(II)I" } : Jvm.MethodName)) ∈ lw_tbl := lw_at lw_m10 141 rfl
theorem q2445 : (Jvm.Cond.instanceMethod ({ cls := "VisitingHoursModel", name := "lovedOf", desc := "(II)I" } : Jvm.MethodName)) ∈ lw_all := lw_g (lw_at lw_m10 142 rfl) rfl
theorem q2446 : (Jvm.Cond.code ({ cls := "VisitingHoursModel", name := "lovedOf", desc := "(II)I" } : Jvm.MethodName) prog_19_method_12_code (3 : Nat) (Option.some Jvm.ClassFile.FieldType.int)) ∈ lw_all := lw_g (lw_at lw_m10 143 rfl) rfl
theorem q2448 : (Jvm.Cond.instanceMethod ({ cls := "VisitingHoursModel", name := "booked", desc := "(II)I" } : Jvm.MethodName)) ∈ lw_all := lw_g (lw_at lw_m10 145 rfl) rfl
theorem q2449 : (Jvm.Cond.selects "VisitingHoursModel" ({ cls := "VisitingHoursModel", name := "booked", desc := "(II)I" } : Jvm.MethodName) ({ cls := "VisitingHoursModel", name := "booked", desc := "(II)I" } : Jvm.MethodName)) ∈ lw_all := lw_g (lw_at lw_m10 146 rfl) rfl
theorem q2450 : (Jvm.Cond.code ({ cls := "VisitingHoursModel", name := "booked", desc := "(II)I" } : Jvm.MethodName) prog_19_method_68_code (3 : Nat) (Option.some Jvm.ClassFile.FieldType.int)) ∈ lw_all := lw_g (lw_at lw_m10 147 rfl) rfl
theorem q2451 : (Jvm.Cond.methodLink "VisitingHoursModel" (331 : Nat) ({ cls := "VisitingHoursModel", name := "isQuarter", desc := "(I)Z" } : Jvm.MethodName)) ∈ lw_all := lw_g (lw_at lw_m10 148 rfl) rfl
theorem q2452 : (Jvm.Cond.static ({ cls := "VisitingHoursModel", name := "isQuarter", desc := "(I)Z" } : Jvm.MethodName)) ∈ lw_all := lw_g (lw_at lw_m10 149 rfl) rfl
theorem q2453 : (Jvm.Cond.code ({ cls := "VisitingHoursModel", name := "isQuarter", desc := "(I)Z" } : Jvm.MethodName) prog_19_method_16_code (1 : Nat) (Option.some Jvm.ClassFile.FieldType.boolean)) ∈ lw_all := lw_g (lw_at lw_m10 150 rfl) rfl
theorem q2455 : (Jvm.Cond.instanceMethod ({ cls := "VisitingHoursModel", name := "can", desc := "(III)Z" } : Jvm.MethodName)) ∈ lw_all := lw_g (lw_at lw_m10 152 rfl) rfl
theorem q2456 : (Jvm.Cond.selects "VisitingHoursModel" ({ cls := "VisitingHoursModel", name := "can", desc := "(III)Z" } : Jvm.MethodName) ({ cls := "VisitingHoursModel", name := "can", desc := "(III)Z" } : Jvm.MethodName)) ∈ lw_all := lw_g (lw_at lw_m10 153 rfl) rfl
theorem q2457 : (Jvm.Cond.code ({ cls := "VisitingHoursModel", name := "can", desc := "(III)Z" } : Jvm.MethodName) prog_19_method_70_code (4 : Nat) (Option.some Jvm.ClassFile.FieldType.boolean)) ∈ lw_all := lw_g (lw_at lw_m10 154 rfl) rfl
theorem q2458 : (Jvm.Cond.methodLink "VisitingHoursModel" (334 : Nat) ({ cls := "VisitingHoursModel", name := "areThere", desc := "(III)Z" } : Jvm.MethodName)) ∈ lw_all := lw_g (lw_at lw_m10 155 rfl) rfl
theorem q2459 : (Jvm.Cond.privateMethod ({ cls := "VisitingHoursModel", name := "areThere", desc := "(III)Z" } : Jvm.MethodName)) ∈ lw_tbl := lw_at lw_m10 156 rfl
theorem q2460 : (Jvm.Cond.instanceMethod ({ cls := "VisitingHoursModel", name := "areThere", desc := "(III)Z" } : Jvm.MethodName)) ∈ lw_all := lw_g (lw_at lw_m10 157 rfl) rfl
theorem q2461 : (Jvm.Cond.code ({ cls := "VisitingHoursModel", name := "areThere", desc := "(III)Z" } : Jvm.MethodName) prog_19_method_69_code (4 : Nat) (Option.some Jvm.ClassFile.FieldType.boolean)) ∈ lw_all := lw_g (lw_at lw_m10 158 rfl) rfl
theorem q2462 : (Jvm.Cond.methodLink "VisitingHoursModel" (280 : Nat) ({ cls := "VisitingHoursModel", name := "canMeet", desc := "(III)Z" } : Jvm.MethodName)) ∈ lw_all := lw_g (lw_at lw_m10 159 rfl) rfl
theorem q2463 : (Jvm.Cond.privateMethod ({ cls := "VisitingHoursModel", name := "canMeet", desc := "(III)Z" } : Jvm.MethodName)) ∈ lw_tbl := lw_at lw_m10 160 rfl
theorem q2464 : (Jvm.Cond.instanceMethod ({ cls := "VisitingHoursModel", name := "canMeet", desc := "(III)Z" } : Jvm.MethodName)) ∈ lw_all := lw_g (lw_at lw_m10 161 rfl) rfl
theorem q2465 : (Jvm.Cond.code ({ cls := "VisitingHoursModel", name := "canMeet", desc := "(III)Z" } : Jvm.MethodName) prog_19_method_19_code (4 : Nat) (Option.some Jvm.ClassFile.FieldType.boolean)) ∈ lw_all := lw_g (lw_at lw_m10 162 rfl) rfl
theorem q2466 : (Jvm.Cond.methodLink "VisitingHoursModel" (78 : Nat) ({ cls := "VisitingHoursModel", name := "mayMeet", desc := "(II)Z" } : Jvm.MethodName)) ∈ lw_all := lw_g (lw_at lw_m10 163 rfl) rfl
theorem q2467 : (Jvm.Cond.privateMethod ({ cls := "VisitingHoursModel", name := "mayMeet", desc := "(II)Z" } : Jvm.MethodName)) ∈ lw_tbl := lw_at lw_m10 164 rfl
theorem q2468 : (Jvm.Cond.instanceMethod ({ cls := "VisitingHoursModel", name := "mayMeet", desc := "(II)Z" } : Jvm.MethodName)) ∈ lw_all := lw_g (lw_at lw_m10 165 rfl) rfl
theorem q2469 : (Jvm.Cond.code ({ cls := "VisitingHoursModel", name := "mayMeet", desc := "(II)Z" } : Jvm.MethodName) prog_19_method_18_code (3 : Nat) (Option.some Jvm.ClassFile.FieldType.boolean)) ∈ lw_all := lw_g (lw_at lw_m10 166 rfl) rfl
theorem q2471 : (Jvm.Cond.instanceMethod ({ cls := "VisitingHoursModel", name := "lets", desc := "(III)Z" } : Jvm.MethodName)) ∈ lw_all := lw_g (lw_at lw_m10 168 rfl) rfl
theorem q2472 : (Jvm.Cond.selects "VisitingHoursModel" ({ cls := "VisitingHoursModel", name := "lets", desc := "(III)Z" } : Jvm.MethodName) ({ cls := "VisitingHoursModel", name := "lets", desc := "(III)Z" } : Jvm.MethodName)) ∈ lw_all := lw_g (lw_at lw_m10 169 rfl) rfl
theorem q2473 : (Jvm.Cond.code ({ cls := "VisitingHoursModel", name := "lets", desc := "(III)Z" } : Jvm.MethodName) prog_19_method_71_code (4 : Nat) (Option.some Jvm.ClassFile.FieldType.boolean)) ∈ lw_all := lw_g (lw_at lw_m10 170 rfl) rfl
theorem q2474 : (Jvm.Cond.methodLink "VisitingHoursModel" (283 : Nat) ({ cls := "VisitingHoursModel", name := "isLet", desc := "(III)Z" } : Jvm.MethodName)) ∈ lw_all := lw_g (lw_at lw_m10 171 rfl) rfl
theorem q2475 : (Jvm.Cond.privateMethod ({ cls := "VisitingHoursModel", name := "isLet", desc := "(III)Z" } : Jvm.MethodName)) ∈ lw_tbl := lw_at lw_m10 172 rfl
theorem q2476 : (Jvm.Cond.instanceMethod ({ cls := "VisitingHoursModel", name := "isLet", desc := "(III)Z" } : Jvm.MethodName)) ∈ lw_all := lw_g (lw_at lw_m10 173 rfl) rfl
theorem q2477 : (Jvm.Cond.code ({ cls := "VisitingHoursModel", name := "isLet", desc := "(III)Z" } : Jvm.MethodName) prog_19_method_52_code (4 : Nat) (Option.some Jvm.ClassFile.FieldType.boolean)) ∈ lw_all := lw_g (lw_at lw_m10 174 rfl) rfl
theorem q2478 : (Jvm.Cond.methodLink "VisitingHoursModel" (274 : Nat) ({ cls := "VisitingHoursModel", name := "asks", desc := "(III)V" } : Jvm.MethodName)) ∈ lw_all := lw_g (lw_at lw_m10 175 rfl) rfl
theorem q2479 : (Jvm.Cond.privateMethod ({ cls := "VisitingHoursModel", name := "asks", desc := "(III)V" } : Jvm.MethodName)) ∈ lw_tbl := lw_at lw_m10 176 rfl
theorem q2480 : (Jvm.Cond.instanceMethod ({ cls := "VisitingHoursModel", name := "asks", desc := "(III)V" } : Jvm.MethodName)) ∈ lw_all := lw_g (lw_at lw_m10 177 rfl) rfl
theorem q2481 : (Jvm.Cond.code ({ cls := "VisitingHoursModel", name := "asks", desc := "(III)V" } : Jvm.MethodName) prog_19_method_51_code (6 : Nat) (Option.none : Option Jvm.ClassFile.FieldType)) ∈ lw_all := lw_g (lw_at lw_m10 178 rfl) rfl
theorem q2483 : (Jvm.Cond.instanceMethod ({ cls := "VisitingHoursModel", name := "joy", desc := "(III)I" } : Jvm.MethodName)) ∈ lw_all := lw_g (lw_at lw_m10 180 rfl) rfl
theorem q2484 : (Jvm.Cond.selects "VisitingHoursModel" ({ cls := "VisitingHoursModel", name := "joy", desc := "(III)I" } : Jvm.MethodName) ({ cls := "VisitingHoursModel", name := "joy", desc := "(III)I" } : Jvm.MethodName)) ∈ lw_all := lw_g (lw_at lw_m10 181 rfl) rfl
theorem q2485 : (Jvm.Cond.code ({ cls := "VisitingHoursModel", name := "joy", desc := "(III)I" } : Jvm.MethodName) prog_19_method_72_code (4 : Nat) (Option.some Jvm.ClassFile.FieldType.int)) ∈ lw_all := lw_g (lw_at lw_m10 182 rfl) rfl
theorem q2486 : (Jvm.Cond.methodLink "VisitingHoursModel" (337 : Nat) ({ cls := "VisitingHoursModel", name := "joyOf", desc := "(III)I" } : Jvm.MethodName)) ∈ lw_all := lw_g (lw_at lw_m10 183 rfl) rfl
theorem q2487 : (Jvm.Cond.privateMethod ({ cls := "VisitingHoursModel", name := "joyOf", desc := "(III)I" } : Jvm.MethodName)) ∈ lw_tbl := lw_at lw_m10 184 rfl
theorem q2488 : (Jvm.Cond.instanceMethod ({ cls := "VisitingHoursModel", name := "joyOf", desc := "(III)I" } : Jvm.MethodName)) ∈ lw_all := lw_g (lw_at lw_m10 185 rfl) rfl
theorem q2489 : (Jvm.Cond.code ({ cls := "VisitingHoursModel", name := "joyOf", desc := "(III)I" } : Jvm.MethodName) prog_19_method_53_code (4 : Nat) (Option.some Jvm.ClassFile.FieldType.int)) ∈ lw_all := lw_g (lw_at lw_m10 186 rfl) rfl
theorem q2490 : (Jvm.Cond.methodLink "VisitingHoursModel" (277 : Nat) ({ cls := "VisitingHoursModel", name := "greater", desc := "(II)I" } : Jvm.MethodName)) ∈ lw_all := lw_g (lw_at lw_m10 187 rfl) rfl
theorem q2491 : (Jvm.Cond.static ({ cls := "VisitingHoursModel", name := "greater", desc := "(II)I" } : Jvm.MethodName)) ∈ lw_all := lw_g (lw_at lw_m10 188 rfl) rfl
theorem q2492 : (Jvm.Cond.code ({ cls := "VisitingHoursModel", name := "greater", desc := "(II)I" } : Jvm.MethodName) prog_19_method_5_code (2 : Nat) (Option.some Jvm.ClassFile.FieldType.int)) ∈ lw_all := lw_g (lw_at lw_m10 189 rfl) rfl
theorem q2494 : (Jvm.Cond.instanceMethod ({ cls := "VisitingHoursModel", name := "book", desc := "(III)I" } : Jvm.MethodName)) ∈ lw_all := lw_g (lw_at lw_m10 191 rfl) rfl
theorem q2495 : (Jvm.Cond.selects "VisitingHoursModel" ({ cls := "VisitingHoursModel", name := "book", desc := "(III)I" } : Jvm.MethodName) ({ cls := "VisitingHoursModel", name := "book", desc := "(III)I" } : Jvm.MethodName)) ∈ lw_all := lw_g (lw_at lw_m10 192 rfl) rfl
theorem q2496 : (Jvm.Cond.code ({ cls := "VisitingHoursModel", name := "book", desc := "(III)I" } : Jvm.MethodName) prog_19_method_75_code (4 : Nat) (Option.some Jvm.ClassFile.FieldType.int)) ∈ lw_all := lw_g (lw_at lw_m10 193 rfl) rfl
theorem q2497 : (Jvm.Cond.methodLink "VisitingHoursModel" (344 : Nat) ({ cls := "VisitingHoursModel", name := "sets", desc := "(II)I" } : Jvm.MethodName)) ∈ lw_all := lw_g (lw_at lw_m10 194 rfl) rfl
theorem q2498 : (Jvm.Cond.privateMethod ({ cls := "VisitingHoursModel", name := "sets", desc := "(II)I" } : Jvm.MethodName)) ∈ lw_tbl := lw_at lw_m10 195 rfl
theorem q2499 : (Jvm.Cond.instanceMethod ({ cls := "VisitingHoursModel", name := "sets", desc := "(II)I" } : Jvm.MethodName)) ∈ lw_all := lw_g (lw_at lw_m10 196 rfl) rfl
theorem q2500 : (Jvm.Cond.code ({ cls := "VisitingHoursModel", name := "sets", desc := "(II)I" } : Jvm.MethodName) prog_19_method_74_code (4 : Nat) (Option.some Jvm.ClassFile.FieldType.int)) ∈ lw_all := lw_g (lw_at lw_m10 197 rfl) rfl
theorem q2501 : (Jvm.Cond.methodLink "VisitingHoursModel" (341 : Nat) ({ cls := "VisitingHoursModel", name := "remembers", desc := "()V" } : Jvm.MethodName)) ∈ lw_all := lw_g (lw_at lw_m10 198 rfl) rfl
theorem q2502 : (Jvm.Cond.privateMethod ({ cls := "VisitingHoursModel", name := "remembers", desc := "()V" } : Jvm.MethodName)) ∈ lw_tbl := lw_at lw_m10 199 rfl
theorem q2503 : (Jvm.Cond.instanceMethod ({ cls := "VisitingHoursModel", name := "remembers", desc := "()V" } : Jvm.MethodName)) ∈ lw_all := lw_g (lw_at lw_m10 200 rfl) rfl
theorem q2504 : (Jvm.Cond.code ({ cls := "VisitingHoursModel", name := "remembers", desc := "()V" } : Jvm.MethodName) prog_19_method_73_code (2 : Nat) (Option.none : Option Jvm.ClassFile.FieldType)) ∈ lw_all := lw_g (lw_at lw_m10 201 rfl) rfl
theorem q2506 : (Jvm.Cond.instanceMethod ({ cls := "VisitingHoursModel", name := "strike", desc := "(II)I" } : Jvm.MethodName)) ∈ lw_all := lw_g (lw_at lw_m10 203 rfl) rfl
theorem q2507 : (Jvm.Cond.selects "VisitingHoursModel" ({ cls := "VisitingHoursModel", name := "strike", desc := "(II)I" } : Jvm.MethodName) ({ cls := "VisitingHoursModel", name := "strike", desc := "(II)I" } : Jvm.MethodName)) ∈ lw_all := lw_g (lw_at lw_m10 204 rfl) rfl
theorem q2508 : (Jvm.Cond.code ({ cls := "VisitingHoursModel", name := "strike", desc := "(II)I" } : Jvm.MethodName) prog_19_method_76_code (3 : Nat) (Option.some Jvm.ClassFile.FieldType.int)) ∈ lw_all := lw_g (lw_at lw_m10 205 rfl) rfl
theorem q2510 : (Jvm.Cond.instanceMethod ({ cls := "VisitingHoursModel", name := "change", desc := "(III)I" } : Jvm.MethodName)) ∈ lw_all := lw_g (lw_at lw_m10 207 rfl) rfl
theorem q2511 : (Jvm.Cond.selects "VisitingHoursModel" ({ cls := "VisitingHoursModel", name := "change", desc := "(III)I" } : Jvm.MethodName) ({ cls := "VisitingHoursModel", name := "change", desc := "(III)I" } : Jvm.MethodName)) ∈ lw_all := lw_g (lw_at lw_m10 208 rfl) rfl
theorem q2512 : (Jvm.Cond.code ({ cls := "VisitingHoursModel", name := "change", desc := "(III)I" } : Jvm.MethodName) prog_19_method_77_code (6 : Nat) (Option.some Jvm.ClassFile.FieldType.int)) ∈ lw_all := lw_g (lw_at lw_m10 209 rfl) rfl
theorem q2514 : (Jvm.Cond.instanceMethod ({ cls := "VisitingHoursModel", name := "mark", desc := "(II)I" } : Jvm.MethodName)) ∈ lw_all := lw_g (lw_at lw_m10 211 rfl) rfl
theorem q2515 : (Jvm.Cond.selects "VisitingHoursModel" ({ cls := "VisitingHoursModel", name := "mark", desc := "(II)I" } : Jvm.MethodName) ({ cls := "VisitingHoursModel", name := "mark", desc := "(II)I" } : Jvm.MethodName)) ∈ lw_all := lw_g (lw_at lw_m10 212 rfl) rfl
theorem q2516 : (Jvm.Cond.code ({ cls := "VisitingHoursModel", name := "mark", desc := "(II)I" } : Jvm.MethodName) prog_19_method_78_code (3 : Nat) (Option.some Jvm.ClassFile.FieldType.int)) ∈ lw_all := lw_g (lw_at lw_m10 213 rfl) rfl
theorem q2518 : (Jvm.Cond.instanceMethod ({ cls := "VisitingHoursModel", name := "gate", desc := "(II)I" } : Jvm.MethodName)) ∈ lw_all := lw_g (lw_at lw_m10 215 rfl) rfl
theorem q2519 : (Jvm.Cond.selects "VisitingHoursModel" ({ cls := "VisitingHoursModel", name := "gate", desc := "(II)I" } : Jvm.MethodName) ({ cls := "VisitingHoursModel", name := "gate", desc := "(II)I" } : Jvm.MethodName)) ∈ lw_all := lw_g (lw_at lw_m10 216 rfl) rfl
theorem q2520 : (Jvm.Cond.code ({ cls := "VisitingHoursModel", name := "gate", desc := "(II)I" } : Jvm.MethodName) prog_19_method_79_code (5 : Nat) (Option.some Jvm.ClassFile.FieldType.int)) ∈ lw_all := lw_g (lw_at lw_m10 217 rfl) rfl
theorem q2522 : (Jvm.Cond.instanceMethod ({ cls := "VisitingHoursModel", name := "value", desc := "(IIZI)I" } : Jvm.MethodName)) ∈ lw_all := lw_g (lw_at lw_m10 219 rfl) rfl
theorem q2523 : (Jvm.Cond.selects "VisitingHoursModel" ({ cls := "VisitingHoursModel", name := "value", desc := "(IIZI)I" } : Jvm.MethodName) ({ cls := "VisitingHoursModel", name := "value", desc := "(IIZI)I" } : Jvm.MethodName)) ∈ lw_all := lw_g (lw_at lw_m10 220 rfl) rfl
theorem q2524 : (Jvm.Cond.code ({ cls := "VisitingHoursModel", name := "value", desc := "(IIZI)I" } : Jvm.MethodName) prog_19_method_80_code (5 : Nat) (Option.some Jvm.ClassFile.FieldType.int)) ∈ lw_all := lw_g (lw_at lw_m10 221 rfl) rfl
theorem q2526 : (Jvm.Cond.instanceMethod ({ cls := "VisitingHoursModel", name := "weeks", desc := "(I)I" } : Jvm.MethodName)) ∈ lw_all := lw_g (lw_at lw_m10 223 rfl) rfl
theorem q2527 : (Jvm.Cond.selects "VisitingHoursModel" ({ cls := "VisitingHoursModel", name := "weeks", desc := "(I)I" } : Jvm.MethodName) ({ cls := "VisitingHoursModel", name := "weeks", desc := "(I)I" } : Jvm.MethodName)) ∈ lw_all := lw_g (lw_at lw_m10 224 rfl) rfl
theorem q2528 : (Jvm.Cond.code ({ cls := "VisitingHoursModel", name := "weeks", desc := "(I)I" } : Jvm.MethodName) prog_19_method_81_code (2 : Nat) (Option.some Jvm.ClassFile.FieldType.int)) ∈ lw_all := lw_g (lw_at lw_m10 225 rfl) rfl
theorem q2529 : (Jvm.Cond.methodLink "VisitingHoursModel" (347 : Nat) ({ cls := "VisitingHoursModel", name := "goes", desc := "(IZ)I" } : Jvm.MethodName)) ∈ lw_all := lw_g (lw_at lw_m10 226 rfl) rfl
theorem q2530 : (Jvm.Cond.privateMethod ({ cls := "VisitingHoursModel", name := "goes", desc := "(IZ)I" } : Jvm.MethodName)) ∈ lw_tbl := lw_at lw_m10 227 rfl
theorem q2531 : (Jvm.Cond.instanceMethod ({ cls := "VisitingHoursModel", name := "goes", desc := "(IZ)I" } : Jvm.MethodName)) ∈ lw_all := lw_g (lw_at lw_m10 228 rfl) rfl
theorem q2532 : (Jvm.Cond.code ({ cls := "VisitingHoursModel", name := "goes", desc := "(IZ)I" } : Jvm.MethodName) prog_19_method_59_code (8 : Nat) (Option.some Jvm.ClassFile.FieldType.int)) ∈ lw_all := lw_g (lw_at lw_m10 229 rfl) rfl
theorem q2533 : (Jvm.Cond.methodLink "VisitingHoursModel" (297 : Nat) ({ cls := "VisitingHoursModel", name := "draw", desc := "(I)I" } : Jvm.MethodName)) ∈ lw_all := lw_g (lw_at lw_m10 230 rfl) rfl
theorem q2534 : (Jvm.Cond.privateMethod ({ cls := "VisitingHoursModel", name := "draw", desc := "(I)I" } : Jvm.MethodName)) ∈ lw_tbl := lw_at lw_m10 231 rfl
theorem q2535 : (Jvm.Cond.instanceMethod ({ cls := "VisitingHoursModel", name := "draw", desc := "(I)I" } : Jvm.MethodName)) ∈ lw_all := lw_g (lw_at lw_m10 232 rfl) rfl
theorem q2536 : (Jvm.Cond.code ({ cls := "VisitingHoursModel", name := "draw", desc := "(I)I" } : Jvm.MethodName) prog_19_method_55_code (2 : Nat) (Option.some Jvm.ClassFile.FieldType.int)) ∈ lw_all := lw_g (lw_at lw_m10 233 rfl) rfl
theorem q2537 : (Jvm.Cond.constant "VisitingHoursModel" (286 : Nat) (1103515245 : Int32)) ∈ lw_all := lw_g (lw_at lw_m10 234 rfl) rfl
theorem q2538 : (Jvm.Cond.methodLink "VisitingHoursModel" (300 : Nat) ({ cls := "VisitingHoursModel", name := "meet", desc := "(I)I" } : Jvm.MethodName)) ∈ lw_all := lw_g (lw_at lw_m10 235 rfl) rfl
theorem q2539 : (Jvm.Cond.privateMethod ({ cls := "VisitingHoursModel", name := "meet", desc := "(I)I" } : Jvm.MethodName)) ∈ lw_tbl := lw_at lw_m10 236 rfl
theorem q2540 : (Jvm.Cond.instanceMethod ({ cls := "VisitingHoursModel", name := "meet", desc := "(I)I" } : Jvm.MethodName)) ∈ lw_all := lw_g (lw_at lw_m10 237 rfl) rfl
theorem q2541 : (Jvm.Cond.code ({ cls := "VisitingHoursModel", name := "meet", desc := "(I)I" } : Jvm.MethodName) prog_19_method_57_code (6 : Nat) (Option.some Jvm.ClassFile.FieldType.int)) ∈ lw_all := lw_g (lw_at lw_m10 238 rfl) rfl
theorem q2542 : (Jvm.Cond.methodLink "VisitingHoursModel" (287 : Nat) ({ cls := "VisitingHoursModel", name := "wouldMeet", desc := "(II)Z" } : Jvm.MethodName)) ∈ lw_all := lw_g (lw_at lw_m10 239 rfl) rfl
theorem q2543 : (Jvm.Cond.privateMethod ({ cls := "VisitingHoursModel", name := "wouldMeet", desc := "(II)Z" } : Jvm.MethodName)) ∈ lw_tbl := lw_at lw_m11 0 rfl
theorem q2544 : (Jvm.Cond.instanceMethod ({ cls := "VisitingHoursModel", name := "wouldMeet", desc := "(II)Z" } : Jvm.MethodName)) ∈ lw_all := lw_g (lw_at lw_m11 1 rfl) rfl
theorem q2545 : (Jvm.Cond.code ({ cls := "VisitingHoursModel", name := "wouldMeet", desc := "(II)Z" } : Jvm.MethodName) prog_19_method_54_code (4 : Nat) (Option.some Jvm.ClassFile.FieldType.boolean)) ∈ lw_all := lw_g (lw_at lw_m11 2 rfl) rfl
theorem q2546 : (Jvm.Cond.methodLink "VisitingHoursModel" (290 : Nat) ({ cls := "VisitingHoursModel", name := "logs", desc := "(IIIII)V" } : Jvm.MethodName)) ∈ lw_all := lw_g (lw_at lw_m11 3 rfl) rfl
theorem q2547 : (Jvm.Cond.privateMethod ({ cls := "VisitingHoursModel", name := "logs", desc := "(IIIII)V" } : Jvm.MethodName)) ∈ lw_tbl := lw_at lw_m11 4 rfl
theorem q2548 : (Jvm.Cond.instanceMethod ({ cls := "VisitingHoursModel", name := "logs", desc := "(IIIII)V" } : Jvm.MethodName)) ∈ lw_all := lw_g (lw_at lw_m11 5 rfl) rfl
theorem q2549 : (Jvm.Cond.code ({ cls := "VisitingHoursModel", name := "logs", desc := "(IIIII)V" } : Jvm.MethodName) prog_19_method_56_code (7 : Nat) (Option.none : Option Jvm.ClassFile.FieldType)) ∈ lw_all := lw_g (lw_at lw_m11 6 rfl) rfl
theorem q2550 : (Jvm.Cond.methodLink "VisitingHoursModel" (303 : Nat) ({ cls := "VisitingHoursModel", name := "bits", desc := "(I)I" } : Jvm.MethodName)) ∈ lw_all := lw_g (lw_at lw_m11 7 rfl) rfl
theorem q2551 : (Jvm.Cond.static ({ cls := "VisitingHoursModel", name := "bits", desc := "(I)I" } : Jvm.MethodName)) ∈ lw_all := lw_g (lw_at lw_m11 8 rfl) rfl
theorem q2552 : (Jvm.Cond.code ({ cls := "VisitingHoursModel", name := "bits", desc := "(I)I" } : Jvm.MethodName) prog_19_method_7_code (3 : Nat) (Option.some Jvm.ClassFile.FieldType.int)) ∈ lw_all := lw_g (lw_at lw_m11 9 rfl) rfl
theorem q2553 : (Jvm.Cond.methodLink "VisitingHoursModel" (306 : Nat) ({ cls := "VisitingHoursModel", name := "closes", desc := "(IZ)V" } : Jvm.MethodName)) ∈ lw_all := lw_g (lw_at lw_m11 10 rfl) rfl
theorem q2554 : (Jvm.Cond.privateMethod ({ cls := "VisitingHoursModel", name := "closes", desc := "(IZ)V" } : Jvm.MethodName)) ∈ lw_tbl := lw_at lw_m11 11 rfl
theorem q2555 : (Jvm.Cond.instanceMethod ({ cls := "VisitingHoursModel", name := "closes", desc := "(IZ)V" } : Jvm.MethodName)) ∈ lw_all := lw_g (lw_at lw_m11 12 rfl) rfl
theorem q2556 : (Jvm.Cond.code ({ cls := "VisitingHoursModel", name := "closes", desc := "(IZ)V" } : Jvm.MethodName) prog_19_method_58_code (4 : Nat) (Option.none : Option Jvm.ClassFile.FieldType)) ∈ lw_all := lw_g (lw_at lw_m11 13 rfl) rfl
theorem q2558 : (Jvm.Cond.instanceMethod ({ cls := "VisitingHoursModel", name := "meetings", desc := "(Z)I" } : Jvm.MethodName)) ∈ lw_all := lw_g (lw_at lw_m11 15 rfl) rfl
theorem q2559 : (Jvm.Cond.selects "VisitingHoursModel" ({ cls := "VisitingHoursModel", name := "meetings", desc := "(Z)I" } : Jvm.MethodName) ({ cls := "VisitingHoursModel", name := "meetings", desc := "(Z)I" } : Jvm.MethodName)) ∈ lw_all := lw_g (lw_at lw_m11 16 rfl) rfl
theorem q2560 : (Jvm.Cond.code ({ cls := "VisitingHoursModel", name := "meetings", desc := "(Z)I" } : Jvm.MethodName) prog_19_method_82_code (5 : Nat) (Option.some Jvm.ClassFile.FieldType.int)) ∈ lw_all := lw_g (lw_at lw_m11 17 rfl) rfl
theorem q2562 : (Jvm.Cond.instanceMethod ({ cls := "VisitingHoursModel", name := "twice", desc := "()I" } : Jvm.MethodName)) ∈ lw_all := lw_g (lw_at lw_m11 19 rfl) rfl
theorem q2563 : (Jvm.Cond.selects "VisitingHoursModel" ({ cls := "VisitingHoursModel", name := "twice", desc := "()I" } : Jvm.MethodName) ({ cls := "VisitingHoursModel", name := "twice", desc := "()I" } : Jvm.MethodName)) ∈ lw_all := lw_g (lw_at lw_m11 20 rfl) rfl
theorem q2564 : (Jvm.Cond.code ({ cls := "VisitingHoursModel", name := "twice", desc := "()I" } : Jvm.MethodName) prog_19_method_83_code (5 : Nat) (Option.some Jvm.ClassFile.FieldType.int)) ∈ lw_all := lw_g (lw_at lw_m11 21 rfl) rfl
theorem q2566 : (Jvm.Cond.instanceMethod ({ cls := "VisitingHoursModel", name := "taboo", desc := "()I" } : Jvm.MethodName)) ∈ lw_all := lw_g (lw_at lw_m11 23 rfl) rfl
theorem q2567 : (Jvm.Cond.selects "VisitingHoursModel" ({ cls := "VisitingHoursModel", name := "taboo", desc := "()I" } : Jvm.MethodName) ({ cls := "VisitingHoursModel", name := "taboo", desc := "()I" } : Jvm.MethodName)) ∈ lw_all := lw_g (lw_at lw_m11 24 rfl) rfl
theorem q2568 : (Jvm.Cond.code ({ cls := "VisitingHoursModel", name := "taboo", desc := "()I" } : Jvm.MethodName) prog_19_method_84_code (4 : Nat) (Option.some Jvm.ClassFile.FieldType.int)) ∈ lw_all := lw_g (lw_at lw_m11 25 rfl) rfl
theorem q2570 : (Jvm.Cond.instanceMethod ({ cls := "VisitingHoursModel", name := "hostBest", desc := "(I)I" } : Jvm.MethodName)) ∈ lw_all := lw_g (lw_at lw_m11 27 rfl) rfl
theorem q2571 : (Jvm.Cond.selects "VisitingHoursModel" ({ cls := "VisitingHoursModel", name := "hostBest", desc := "(I)I" } : Jvm.MethodName) ({ cls := "VisitingHoursModel", name := "hostBest", desc := "(I)I" } : Jvm.MethodName)) ∈ lw_all := lw_g (lw_at lw_m11 28 rfl) rfl
theorem q2572 : (Jvm.Cond.code ({ cls := "VisitingHoursModel", name := "hostBest", desc := "(I)I" } : Jvm.MethodName) prog_19_method_90_code (2 : Nat) (Option.some Jvm.ClassFile.FieldType.int)) ∈ lw_all := lw_g (lw_at lw_m11 29 rfl) rfl
theorem q2573 : (Jvm.Cond.methodLink "VisitingHoursModel" (365 : Nat) ({ cls := "VisitingHoursModel", name := "pairs", desc := "(Z)V" } : Jvm.MethodName)) ∈ lw_all := lw_g (lw_at lw_m11 30 rfl) rfl
theorem q2574 : (Jvm.Cond.privateMethod ({ cls := "VisitingHoursModel", name := "pairs", desc := "(Z)V" } : Jvm.MethodName)) ∈ lw_tbl := lw_at lw_m11 31 rfl
theorem q2575 : (Jvm.Cond.instanceMethod ({ cls := "VisitingHoursModel", name := "pairs", desc := "(Z)V" } : Jvm.MethodName)) ∈ lw_all := lw_g (lw_at lw_m11 32 rfl) rfl
theorem q2576 : (Jvm.Cond.code ({ cls := "VisitingHoursModel", name := "pairs", desc := "(Z)V" } : Jvm.MethodName) prog_19_method_87_code (7 : Nat) (Option.none : Option Jvm.ClassFile.FieldType)) ∈ lw_all := lw_g (lw_at lw_m11 33 rfl) rfl
theorem q2577 : (Jvm.Cond.methodLink "VisitingHoursModel" (351 : Nat) ({ cls := "VisitingHoursModel", name := "wants", desc := "(IIZ)I" } : Jvm.MethodName)) ∈ lw_all := lw_g (lw_at lw_m11 34 rfl) rfl
theorem q2578 : (Jvm.Cond.privateMethod ({ cls := "VisitingHoursModel", name := "wants", desc := "(IIZ)I" } : Jvm.MethodName)) ∈ lw_tbl := lw_at lw_m11 35 rfl
theorem q2579 : (Jvm.Cond.instanceMethod ({ cls := "VisitingHoursModel", name := "wants", desc := "(IIZ)I" } : Jvm.MethodName)) ∈ lw_all := lw_g (lw_at lw_m11 36 rfl) rfl
theorem q2580 : (Jvm.Cond.code ({ cls := "VisitingHoursModel", name := "wants", desc := "(IIZ)I" } : Jvm.MethodName) prog_19_method_88_code (7 : Nat) (Option.some Jvm.ClassFile.FieldType.int)) ∈ lw_all := lw_g (lw_at lw_m11 37 rfl) rfl
theorem q2581 : (Jvm.Cond.methodLink "VisitingHoursModel" (359 : Nat) ({ cls := "VisitingHoursModel", name := "hostRather", desc := "(III)Z" } : Jvm.MethodName)) ∈ lw_all := lw_g (lw_at lw_m11 38 rfl) rfl
theorem q2582 : (Jvm.Cond.privateMethod ({ cls := "VisitingHoursModel", name := "hostRather", desc := "(III)Z" } : Jvm.MethodName)) ∈ lw_tbl := lw_at lw_m11 39 rfl
theorem q2583 : (Jvm.Cond.instanceMethod ({ cls := "VisitingHoursModel", name := "hostRather", desc := "(III)Z" } : Jvm.MethodName)) ∈ lw_all := lw_g (lw_at lw_m11 40 rfl) rfl
theorem q2584 : (Jvm.Cond.code ({ cls := "VisitingHoursModel", name := "hostRather", desc := "(III)Z" } : Jvm.MethodName) prog_19_method_85_code (4 : Nat) (Option.some Jvm.ClassFile.FieldType.boolean)) ∈ lw_all := lw_g (lw_at lw_m11 41 rfl) rfl
theorem q2585 : (Jvm.Cond.methodLink "VisitingHoursModel" (362 : Nat) ({ cls := "VisitingHoursModel", name := "guestRather", desc := "(III)Z" } : Jvm.MethodName)) ∈ lw_all := lw_g (lw_at lw_m11 42 rfl) rfl
theorem q2586 : (Jvm.Cond.privateMethod ({ cls := "VisitingHoursModel", name := "guestRather", desc := "(III)Z" } : Jvm.MethodName)) ∈ lw_tbl := lw_at lw_m11 43 rfl
theorem q2587 : (Jvm.Cond.instanceMethod ({ cls := "VisitingHoursModel", name := "guestRather", desc := "(III)Z" } : Jvm.MethodName)) ∈ lw_all := lw_g (lw_at lw_m11 44 rfl) rfl
theorem q2588 : (Jvm.Cond.code ({ cls := "VisitingHoursModel", name := "guestRather", desc := "(III)Z" } : Jvm.MethodName) prog_19_method_86_code (4 : Nat) (Option.some Jvm.ClassFile.FieldType.boolean)) ∈ lw_all := lw_g (lw_at lw_m11 45 rfl) rfl
theorem q2589 : (Jvm.Cond.methodLink "VisitingHoursModel" (355 : Nat) ({ cls := "VisitingHoursModel", name := "asked", desc := "(IIZ)V" } : Jvm.MethodName)) ∈ lw_all := lw_g (lw_at lw_m11 46 rfl) rfl
theorem q2590 : (Jvm.Cond.privateMethod ({ cls := "VisitingHoursModel", name := "asked", desc := "(IIZ)V" } : Jvm.MethodName)) ∈ lw_tbl := lw_at lw_m11 47 rfl
theorem q2591 : (Jvm.Cond.instanceMethod ({ cls := "VisitingHoursModel", name := "asked", desc := "(IIZ)V" } : Jvm.MethodName)) ∈ lw_all := lw_g (lw_at lw_m11 48 rfl) rfl
theorem q2592 : (Jvm.Cond.code ({ cls := "VisitingHoursModel", name := "asked", desc := "(IIZ)V" } : Jvm.MethodName) prog_19_method_89_code (6 : Nat) (Option.none : Option Jvm.ClassFile.FieldType)) ∈ lw_all := lw_g (lw_at lw_m11 49 rfl) rfl
theorem q2594 : (Jvm.Cond.instanceMethod ({ cls := "VisitingHoursModel", name := "guestBest", desc := "(I)I" } : Jvm.MethodName)) ∈ lw_all := lw_g (lw_at lw_m11 51 rfl) rfl
theorem q2595 : (Jvm.Cond.selects "VisitingHoursModel" ({ cls := "VisitingHoursModel", name := "guestBest", desc := "(I)I" } : Jvm.MethodName) ({ cls := "VisitingHoursModel", name := "guestBest", desc := "(I)I" } : Jvm.MethodName)) ∈ lw_all := lw_g (lw_at lw_m11 52 rfl) rfl
theorem q2596 : (Jvm.Cond.code ({ cls := "VisitingHoursModel", name := "guestBest", desc := "(I)I" } : Jvm.MethodName) prog_19_method_91_code (2 : Nat) (Option.some Jvm.ClassFile.FieldType.int)) ∈ lw_all := lw_g (lw_at lw_m11 53 rfl) rfl
theorem q2598 : (Jvm.Cond.instanceMethod ({ cls := "VisitingHoursModel", name := "ways", desc := "()I" } : Jvm.MethodName)) ∈ lw_all := lw_g (lw_at lw_m11 55 rfl) rfl
theorem q2599 : (Jvm.Cond.selects "VisitingHoursModel" ({ cls := "VisitingHoursModel", name := "ways", desc := "()I" } : Jvm.MethodName) ({ cls := "VisitingHoursModel", name := "ways", desc := "()I" } : Jvm.MethodName)) ∈ lw_all := lw_g (lw_at lw_m11 56 rfl) rfl
theorem q2600 : (Jvm.Cond.code ({ cls := "VisitingHoursModel", name := "ways", desc := "()I" } : Jvm.MethodName) prog_19_method_94_code (6 : Nat) (Option.some Jvm.ClassFile.FieldType.int)) ∈ lw_all := lw_g (lw_at lw_m11 57 rfl) rfl
theorem q2601 : (Jvm.Cond.methodLink "VisitingHoursModel" (369 : Nat) ({ cls := "VisitingHoursModel", name := "isWay", desc := "(III)Z" } : Jvm.MethodName)) ∈ lw_all := lw_g (lw_at lw_m11 58 rfl) rfl
theorem q2602 : (Jvm.Cond.privateMethod ({ cls := "VisitingHoursModel", name := "isWay", desc := "(III)Z" } : Jvm.MethodName)) ∈ lw_tbl := lw_at lw_m11 59 rfl
theorem q2603 : (Jvm.Cond.instanceMethod ({ cls := "VisitingHoursModel", name := "isWay", desc := "(III)Z" } : Jvm.MethodName)) ∈ lw_all := lw_g (lw_at lw_m11 60 rfl) rfl
theorem q2604 : (Jvm.Cond.code ({ cls := "VisitingHoursModel", name := "isWay", desc := "(III)Z" } : Jvm.MethodName) prog_19_method_95_code (10 : Nat) (Option.some Jvm.ClassFile.FieldType.boolean)) ∈ lw_all := lw_g (lw_at lw_m11 61 rfl) rfl
theorem q2605 : (Jvm.Cond.methodLink "VisitingHoursModel" (372 : Nat) ({ cls := "VisitingHoursModel", name := "kth", desc := "(II)I" } : Jvm.MethodName)) ∈ lw_all := lw_g (lw_at lw_m11 62 rfl) rfl
theorem q2606 : (Jvm.Cond.static ({ cls := "VisitingHoursModel", name := "kth", desc := "(II)I" } : Jvm.MethodName)) ∈ lw_all := lw_g (lw_at lw_m11 63 rfl) rfl
theorem q2607 : (Jvm.Cond.code ({ cls := "VisitingHoursModel", name := "kth", desc := "(II)I" } : Jvm.MethodName) prog_19_method_93_code (4 : Nat) (Option.some Jvm.ClassFile.FieldType.int)) ∈ lw_all := lw_g (lw_at lw_m11 64 rfl) rfl
theorem q2608 : (Jvm.Cond.methodLink "VisitingHoursModel" (375 : Nat) ({ cls := "VisitingHoursModel", name := "rathers", desc := "()I" } : Jvm.MethodName)) ∈ lw_all := lw_g (lw_at lw_m11 65 rfl) rfl
theorem q2609 : (Jvm.Cond.privateMethod ({ cls := "VisitingHoursModel", name := "rathers", desc := "()I" } : Jvm.MethodName)) ∈ lw_tbl := lw_at lw_m11 66 rfl
theorem q2610 : (Jvm.Cond.instanceMethod ({ cls := "VisitingHoursModel", name := "rathers", desc := "()I" } : Jvm.MethodName)) ∈ lw_all := lw_g (lw_at lw_m11 67 rfl) rfl
theorem q2611 : (Jvm.Cond.code ({ cls := "VisitingHoursModel", name := "rathers", desc := "()I" } : Jvm.MethodName) prog_19_method_92_code (4 : Nat) (Option.some Jvm.ClassFile.FieldType.int)) ∈ lw_all := lw_g (lw_at lw_m11 68 rfl) rfl
theorem q2613 : (Jvm.Cond.instanceMethod ({ cls := "VisitingHoursModel", name := "rather", desc := "()I" } : Jvm.MethodName)) ∈ lw_all := lw_g (lw_at lw_m11 70 rfl) rfl
theorem q2614 : (Jvm.Cond.selects "VisitingHoursModel" ({ cls := "VisitingHoursModel", name := "rather", desc := "()I" } : Jvm.MethodName) ({ cls := "VisitingHoursModel", name := "rather", desc := "()I" } : Jvm.MethodName)) ∈ lw_all := lw_g (lw_at lw_m11 71 rfl) rfl
theorem q2615 : (Jvm.Cond.code ({ cls := "VisitingHoursModel", name := "rather", desc := "()I" } : Jvm.MethodName) prog_19_method_96_code (4 : Nat) (Option.some Jvm.ClassFile.FieldType.int)) ∈ lw_all := lw_g (lw_at lw_m11 72 rfl) rfl
theorem q2617 : (Jvm.Cond.instanceMethod ({ cls := "VisitingHoursModel", name := "row", desc := "(IIZ)I" } : Jvm.MethodName)) ∈ lw_all := lw_g (lw_at lw_m11 74 rfl) rfl
theorem q2618 : (Jvm.Cond.selects "VisitingHoursModel" ({ cls := "VisitingHoursModel", name := "row", desc := "(IIZ)I" } : Jvm.MethodName) ({ cls := "VisitingHoursModel", name := "row", desc := "(IIZ)I" } : Jvm.MethodName)) ∈ lw_all := lw_g (lw_at lw_m11 75 rfl) rfl
theorem q2619 : (Jvm.Cond.code ({ cls := "VisitingHoursModel", name := "row", desc := "(IIZ)I" } : Jvm.MethodName) prog_19_method_99_code (6 : Nat) (Option.some Jvm.ClassFile.FieldType.int)) ∈ lw_all := lw_g (lw_at lw_m11 76 rfl) rfl
theorem q2620 : (Jvm.Cond.methodLink "VisitingHoursModel" (381 : Nat) ({ cls := "VisitingHoursModel", name := "rowsOf", desc := "(II)V" } : Jvm.MethodName)) ∈ lw_all := lw_g (lw_at lw_m11 77 rfl) rfl
theorem q2621 : (Jvm.Cond.privateMethod ({ cls := "VisitingHoursModel", name := "rowsOf", desc := "(II)V" } : Jvm.MethodName)) ∈ lw_tbl := lw_at lw_m11 78 rfl
theorem q2622 : (Jvm.Cond.instanceMethod ({ cls := "VisitingHoursModel", name := "rowsOf", desc := "(II)V" } : Jvm.MethodName)) ∈ lw_all := lw_g (lw_at lw_m11 79 rfl) rfl
theorem q2623 : (Jvm.Cond.code ({ cls := "VisitingHoursModel", name := "rowsOf", desc := "(II)V" } : Jvm.MethodName) prog_19_method_97_code (6 : Nat) (Option.none : Option Jvm.ClassFile.FieldType)) ∈ lw_all := lw_g (lw_at lw_m11 80 rfl) rfl
theorem q2624 : (Jvm.Cond.methodLink "VisitingHoursModel" (378 : Nat) ({ cls := "VisitingHoursModel", name := "fitsFrom", desc := "(III)Z" } : Jvm.MethodName)) ∈ lw_all := lw_g (lw_at lw_m11 81 rfl) rfl
theorem q2625 : (Jvm.Cond.privateMethod ({ cls := "VisitingHoursModel", name := "fitsFrom", desc := "(III)Z" } : Jvm.MethodName)) ∈ lw_tbl := lw_at lw_m11 82 rfl
theorem q2626 : (Jvm.Cond.instanceMethod ({ cls := "VisitingHoursModel", name := "fitsFrom", desc := "(III)Z" } : Jvm.MethodName)) ∈ lw_all := lw_g (lw_at lw_m11 83 rfl) rfl
theorem q2627 : (Jvm.Cond.code ({ cls := "VisitingHoursModel", name := "fitsFrom", desc := "(III)Z" } : Jvm.MethodName) prog_19_method_98_code (6 : Nat) (Option.some Jvm.ClassFile.FieldType.boolean)) ∈ lw_all := lw_g (lw_at lw_m11 84 rfl) rfl
theorem q2629 : (Jvm.Cond.instanceMethod ({ cls := "VisitingHoursModel", name := "afternoon", desc := "(II)I" } : Jvm.MethodName)) ∈ lw_all := lw_g (lw_at lw_m11 86 rfl) rfl
theorem q2630 : (Jvm.Cond.selects "VisitingHoursModel" ({ cls := "VisitingHoursModel", name := "afternoon", desc := "(II)I" } : Jvm.MethodName) ({ cls := "VisitingHoursModel", name := "afternoon", desc := "(II)I" } : Jvm.MethodName)) ∈ lw_all := lw_g (lw_at lw_m11 87 rfl) rfl
theorem q2631 : (Jvm.Cond.code ({ cls := "VisitingHoursModel", name := "afternoon", desc := "(II)I" } : Jvm.MethodName) prog_19_method_103_code (3 : Nat) (Option.some Jvm.ClassFile.FieldType.int)) ∈ lw_all := lw_g (lw_at lw_m11 88 rfl) rfl
theorem q2632 : (Jvm.Cond.methodLink "VisitingHoursModel" (389 : Nat) ({ cls := "VisitingHoursModel", name := "fills", desc := "(IIII)V" } : Jvm.MethodName)) ∈ lw_all := lw_g (lw_at lw_m11 89 rfl) rfl
theorem q2633 : (Jvm.Cond.privateMethod ({ cls := "VisitingHoursModel", name := "fills", desc := "(IIII)V" } : Jvm.MethodName)) ∈ lw_tbl := lw_at lw_m11 90 rfl
theorem q2634 : (Jvm.Cond.instanceMethod ({ cls := "VisitingHoursModel", name := "fills", desc := "(IIII)V" } : Jvm.MethodName)) ∈ lw_all := lw_g (lw_at lw_m11 91 rfl) rfl
theorem q2635 : (Jvm.Cond.code ({ cls := "VisitingHoursModel", name := "fills", desc := "(IIII)V" } : Jvm.MethodName) prog_19_method_101_code (10 : Nat) (Option.none : Option Jvm.ClassFile.FieldType)) ∈ lw_all := lw_g (lw_at lw_m11 92 rfl) rfl
theorem q2636 : (Jvm.Cond.methodLink "VisitingHoursModel" (385 : Nat) ({ cls := "VisitingHoursModel", name := "brings", desc := "(IIII)I" } : Jvm.MethodName)) ∈ lw_all := lw_g (lw_at lw_m11 93 rfl) rfl
theorem q2637 : (Jvm.Cond.privateMethod ({ cls := "VisitingHoursModel", name := "brings", desc := "(IIII)I" } : Jvm.MethodName)) ∈ lw_tbl := lw_at lw_m11 94 rfl
theorem q2638 : (Jvm.Cond.instanceMethod ({ cls := "VisitingHoursModel", name := "brings", desc := "(IIII)I" } : Jvm.MethodName)) ∈ lw_all := lw_g (lw_at lw_m11 95 rfl) rfl
theorem q2639 : (Jvm.Cond.code ({ cls := "VisitingHoursModel", name := "brings", desc := "(IIII)I" } : Jvm.MethodName) prog_19_method_100_code (6 : Nat) (Option.some Jvm.ClassFile.FieldType.int)) ∈ lw_all := lw_g (lw_at lw_m11 96 rfl) rfl
theorem q2640 : (Jvm.Cond.methodLink "VisitingHoursModel" (393 : Nat) ({ cls := "VisitingHoursModel", name := "firstOf", desc := "(IIII)I" } : Jvm.MethodName)) ∈ lw_all := lw_g (lw_at lw_m11 97 rfl) rfl
theorem q2641 : (Jvm.Cond.privateMethod ({ cls := "VisitingHoursModel", name := "firstOf", desc := "(IIII)I" } : Jvm.MethodName)) ∈ lw_tbl := lw_at lw_m11 98 rfl
theorem q2642 : (Jvm.Cond.instanceMethod ({ cls := "VisitingHoursModel", name := "firstOf", desc := "(IIII)I" } : Jvm.MethodName)) ∈ lw_all := lw_g (lw_at lw_m11 99 rfl) rfl
theorem q2643 : (Jvm.Cond.code ({ cls := "VisitingHoursModel", name := "firstOf", desc := "(IIII)I" } : Jvm.MethodName) prog_19_method_102_code (10 : Nat) (Option.some Jvm.ClassFile.FieldType.int)) ∈ lw_all := lw_g (lw_at lw_m11 100 rfl) rfl
theorem q2645 : (Jvm.Cond.instanceMethod ({ cls := "VisitingHoursModel", name := "lend", desc := "(I)I" } : Jvm.MethodName)) ∈ lw_all := lw_g (lw_at lw_m11 102 rfl) rfl
theorem q2646 : (Jvm.Cond.selects "VisitingHoursModel" ({ cls := "VisitingHoursModel", name := "lend", desc := "(I)I" } : Jvm.MethodName) ({ cls := "VisitingHoursModel", name := "lend", desc := "(I)I" } : Jvm.MethodName)) ∈ lw_all := lw_g (lw_at lw_m11 103 rfl) rfl
theorem q2647 : (Jvm.Cond.code ({ cls := "VisitingHoursModel", name := "lend", desc := "(I)I" } : Jvm.MethodName) prog_19_method_104_code (2 : Nat) (Option.some Jvm.ClassFile.FieldType.int)) ∈ lw_all := lw_g (lw_at lw_m11 104 rfl) rfl
theorem q2649 : (Jvm.Cond.instanceMethod ({ cls := "VisitingHoursModel", name := "rules", desc := "(Z)I" } : Jvm.MethodName)) ∈ lw_all := lw_g (lw_at lw_m11 106 rfl) rfl
theorem q2650 : (Jvm.Cond.selects "VisitingHoursModel" ({ cls := "VisitingHoursModel", name := "rules", desc := "(Z)I" } : Jvm.MethodName) ({ cls := "VisitingHoursModel", name := "rules", desc := "(Z)I" } : Jvm.MethodName)) ∈ lw_all := lw_g (lw_at lw_m11 107 rfl) rfl
theorem q2651 : (Jvm.Cond.code ({ cls := "VisitingHoursModel", name := "rules", desc := "(Z)I" } : Jvm.MethodName) prog_19_method_107_code (5 : Nat) (Option.some Jvm.ClassFile.FieldType.int)) ∈ lw_all := lw_g (lw_at lw_m11 108 rfl) rfl
theorem q2652 : (Jvm.Cond.methodLink "VisitingHoursModel" (399 : Nat) ({ cls := "VisitingHoursModel", name := "heard", desc := "()I" } : Jvm.MethodName)) ∈ lw_all := lw_g (lw_at lw_m11 109 rfl) rfl
theorem q2653 : (Jvm.Cond.privateMethod ({ cls := "VisitingHoursModel", name := "heard", desc := "()I" } : Jvm.MethodName)) ∈ lw_tbl := lw_at lw_m11 110 rfl
theorem q2654 : (Jvm.Cond.instanceMethod ({ cls := "VisitingHoursModel", name := "heard", desc := "()I" } : Jvm.MethodName)) ∈ lw_all := lw_g (lw_at lw_m11 111 rfl) rfl
theorem q2655 : (Jvm.Cond.code ({ cls := "VisitingHoursModel", name := "heard", desc := "()I" } : Jvm.MethodName) prog_19_method_106_code (6 : Nat) (Option.some Jvm.ClassFile.FieldType.int)) ∈ lw_all := lw_g (lw_at lw_m11 112 rfl) rfl
theorem q2656 : (Jvm.Cond.methodLink "VisitingHoursModel" (396 : Nat) ({ cls := "VisitingHoursModel", name := "isLetBy", desc := "(II)Z" } : Jvm.MethodName)) ∈ lw_all := lw_g (lw_at lw_m11 113 rfl) rfl
theorem q2657 : (Jvm.Cond.static ({ cls := "VisitingHoursModel", name := "isLetBy", desc := "(II)Z" } : Jvm.MethodName)) ∈ lw_all := lw_g (lw_at lw_m11 114 rfl) rfl
theorem q2658 : (Jvm.Cond.code ({ cls := "VisitingHoursModel", name := "isLetBy", desc := "(II)Z" } : Jvm.MethodName) prog_19_method_105_code (4 : Nat) (Option.some Jvm.ClassFile.FieldType.boolean)) ∈ lw_all := lw_g (lw_at lw_m11 115 rfl) rfl
theorem q2660 : (Jvm.Cond.instanceMethod ({ cls := "VisitingHoursModel", name := "send", desc := "()I" } : Jvm.MethodName)) ∈ lw_all := lw_g (lw_at lw_m11 117 rfl) rfl
theorem q2661 : (Jvm.Cond.selects "VisitingHoursModel" ({ cls := "VisitingHoursModel", name := "send", desc := "()I" } : Jvm.MethodName) ({ cls := "VisitingHoursModel", name := "send", desc := "()I" } : Jvm.MethodName)) ∈ lw_all := lw_g (lw_at lw_m11 118 rfl) rfl
theorem q2662 : (Jvm.Cond.code ({ cls := "VisitingHoursModel", name := "send", desc := "()I" } : Jvm.MethodName) prog_19_method_108_code (7 : Nat) (Option.some Jvm.ClassFile.FieldType.int)) ∈ lw_all := lw_g (lw_at lw_m11 119 rfl) rfl
theorem q2663 : (Jvm.Cond.constant "VisitingHoursModel" (402 : Nat) (2000000000 : Int32)) ∈ lw_all := lw_g (lw_at lw_m11 120 rfl) rfl
theorem q2665 : (Jvm.Cond.instanceMethod ({ cls := "VisitingHoursModel", name := "hand", desc := "(Z)I" } : Jvm.MethodName)) ∈ lw_all := lw_g (lw_at lw_m11 122 rfl) rfl
theorem q2666 : (Jvm.Cond.selects "VisitingHoursModel" ({ cls := "VisitingHoursModel", name := "hand", desc := "(Z)I" } : Jvm.MethodName) ({ cls := "VisitingHoursModel", name := "hand", desc := "(Z)I" } : Jvm.MethodName)) ∈ lw_all := lw_g (lw_at lw_m11 123 rfl) rfl
theorem q2667 : (Jvm.Cond.code ({ cls := "VisitingHoursModel", name := "hand", desc := "(Z)I" } : Jvm.MethodName) prog_19_method_110_code (7 : Nat) (Option.some Jvm.ClassFile.FieldType.int)) ∈ lw_all := lw_g (lw_at lw_m11 124 rfl) rfl
theorem q2668 : (Jvm.Cond.methodLink "VisitingHoursModel" (403 : Nat) ({ cls := "VisitingHoursModel", name := "wrongBy", desc := "(II)I" } : Jvm.MethodName)) ∈ lw_all := lw_g (lw_at lw_m11 125 rfl) rfl
theorem q2669 : (Jvm.Cond.privateMethod ({ cls := "VisitingHoursModel", name := "wrongBy", desc := "(II)I" } : Jvm.MethodName)) ∈ lw_tbl := lw_at lw_m11 126 rfl
theorem q2670 : (Jvm.Cond.instanceMethod ({ cls := "VisitingHoursModel", name := "wrongBy", desc := "(II)I" } : Jvm.MethodName)) ∈ lw_all := lw_g (lw_at lw_m11 127 rfl) rfl
theorem q2671 : (Jvm.Cond.code ({ cls := "VisitingHoursModel", name := "wrongBy", desc := "(II)I" } : Jvm.MethodName) prog_19_method_109_code (6 : Nat) (Option.some Jvm.ClassFile.FieldType.int)) ∈ lw_all := lw_g (lw_at lw_m11 128 rfl) rfl
theorem q2673 : (Jvm.Cond.instanceMethod ({ cls := "VisitingHoursModel", name := "dry", desc := "()I" } : Jvm.MethodName)) ∈ lw_all := lw_g (lw_at lw_m11 130 rfl) rfl
theorem q2674 : (Jvm.Cond.selects "VisitingHoursModel" ({ cls := "VisitingHoursModel", name := "dry", desc := "()I" } : Jvm.MethodName) ({ cls := "VisitingHoursModel", name := "dry", desc := "()I" } : Jvm.MethodName)) ∈ lw_all := lw_g (lw_at lw_m11 131 rfl) rfl
theorem q2675 : (Jvm.Cond.code ({ cls := "VisitingHoursModel", name := "dry", desc := "()I" } : Jvm.MethodName) prog_19_method_112_code (5 : Nat) (Option.some Jvm.ClassFile.FieldType.int)) ∈ lw_all := lw_g (lw_at lw_m11 132 rfl) rfl
theorem q2676 : (Jvm.Cond.methodLink "VisitingHoursModel" (406 : Nat) ({ cls := "VisitingHoursModel", name := "meetsIn", desc := "(I)I" } : Jvm.MethodName)) ∈ lw_all := lw_g (lw_at lw_m11 133 rfl) rfl
theorem q2677 : (Jvm.Cond.privateMethod ({ cls := "VisitingHoursModel", name := "meetsIn", desc := "(I)I" } : Jvm.MethodName)) ∈ lw_tbl := lw_at lw_m11 134 rfl
theorem q2678 : (Jvm.Cond.instanceMethod ({ cls := "VisitingHoursModel", name := "meetsIn", desc := "(I)I" } : Jvm.MethodName)) ∈ lw_all := lw_g (lw_at lw_m11 135 rfl) rfl
theorem q2679 : (Jvm.Cond.code ({ cls := "VisitingHoursModel", name := "meetsIn", desc := "(I)I" } : Jvm.MethodName) prog_19_method_111_code (4 : Nat) (Option.some Jvm.ClassFile.FieldType.int)) ∈ lw_all := lw_g (lw_at lw_m11 136 rfl) rfl
theorem q2681 : (Jvm.Cond.instanceMethod ({ cls := "VisitingHoursModel", name := "saved", desc := "(II)I" } : Jvm.MethodName)) ∈ lw_all := lw_g (lw_at lw_m11 138 rfl) rfl
theorem q2682 : (Jvm.Cond.selects "VisitingHoursModel" ({ cls := "VisitingHoursModel", name := "saved", desc := "(II)I" } : Jvm.MethodName) ({ cls := "VisitingHoursModel", name := "saved", desc := "(II)I" } : Jvm.MethodName)) ∈ lw_all := lw_g (lw_at lw_m11 139 rfl) rfl
theorem q2683 : (Jvm.Cond.code ({ cls := "VisitingHoursModel", name := "saved", desc := "(II)I" } : Jvm.MethodName) prog_19_method_113_code (10 : Nat) (Option.some Jvm.ClassFile.FieldType.int)) ∈ lw_all := lw_g (lw_at lw_m11 140 rfl) rfl
theorem q2685 : (Jvm.Cond.instanceMethod ({ cls := "VisitingHoursModel", name := "odds", desc := "(II)I" } : Jvm.MethodName)) ∈ lw_all := lw_g (lw_at lw_m11 142 rfl) rfl
theorem q2686 : (Jvm.Cond.selects "VisitingHoursModel" ({ cls := "VisitingHoursModel", name := "odds", desc := "(II)I" } : Jvm.MethodName) ({ cls := "VisitingHoursModel", name := "odds", desc := "(II)I" } : Jvm.MethodName)) ∈ lw_all := lw_g (lw_at lw_m11 143 rfl) rfl
theorem q2687 : (Jvm.Cond.code ({ cls := "VisitingHoursModel", name := "odds", desc := "(II)I" } : Jvm.MethodName) prog_19_method_115_code (6 : Nat) (Option.some Jvm.ClassFile.FieldType.int)) ∈ lw_all := lw_g (lw_at lw_m11 144 rfl) rfl
theorem q2688 : (Jvm.Cond.methodLink "VisitingHoursModel" (409 : Nat) ({ cls := "VisitingHoursModel", name := "power", desc := "(II)J" } : Jvm.MethodName)) ∈ lw_all := lw_g (lw_at lw_m11 145 rfl) rfl
theorem q2689 : (Jvm.Cond.static ({ cls := "VisitingHoursModel", name := "power", desc := "(II)J" } : Jvm.MethodName)) ∈ lw_all := lw_g (lw_at lw_m11 146 rfl) rfl
theorem q2690 : (Jvm.Cond.code ({ cls := "VisitingHoursModel", name := "power", desc := "(II)J" } : Jvm.MethodName) prog_19_method_114_code (5 : Nat) (Option.some Jvm.ClassFile.FieldType.long)) ∈ lw_all := lw_g (lw_at lw_m11 147 rfl) rfl
theorem q2691 : (Jvm.Cond.constantLong "VisitingHoursModel" (413 : Nat) (10000 : Int64)) ∈ lw_all := lw_g (lw_at lw_m11 148 rfl) rfl
theorem q2693 : (Jvm.Cond.instanceMethod ({ cls := "VisitingHoursModel", name := "waits", desc := "(II)I" } : Jvm.MethodName)) ∈ lw_all := lw_g (lw_at lw_m11 150 rfl) rfl
theorem q2694 : (Jvm.Cond.selects "VisitingHoursModel" ({ cls := "VisitingHoursModel", name := "waits", desc := "(II)I" } : Jvm.MethodName) ({ cls := "VisitingHoursModel", name := "waits", desc := "(II)I" } : Jvm.MethodName)) ∈ lw_all := lw_g (lw_at lw_m11 151 rfl) rfl
theorem q2695 : (Jvm.Cond.code ({ cls := "VisitingHoursModel", name := "waits", desc := "(II)I" } : Jvm.MethodName) prog_19_method_116_code (5 : Nat) (Option.some Jvm.ClassFile.FieldType.int)) ∈ lw_all := lw_g (lw_at lw_m11 152 rfl) rfl
theorem q2697 : (Jvm.Cond.instanceMethod ({ cls := "VisitingHoursModel", name := "treaty", desc := "(II)I" } : Jvm.MethodName)) ∈ lw_all := lw_g (lw_at lw_m11 154 rfl) rfl
theorem q2698 : (Jvm.Cond.selects "VisitingHoursModel" ({ cls := "VisitingHoursModel", name := "treaty", desc := "(II)I" } : Jvm.MethodName) ({ cls := "VisitingHoursModel", name := "treaty", desc := "(II)I" } : Jvm.MethodName)) ∈ lw_all := lw_g (lw_at lw_m11 155 rfl) rfl
theorem q2699 : (Jvm.Cond.code ({ cls := "VisitingHoursModel", name := "treaty", desc := "(II)I" } : Jvm.MethodName) prog_19_method_118_code (8 : Nat) (Option.some Jvm.ClassFile.FieldType.int)) ∈ lw_all := lw_g (lw_at lw_m11 156 rfl) rfl
theorem q2700 : (Jvm.Cond.methodLink "VisitingHoursModel" (415 : Nat) ({ cls := "VisitingHoursModel", name := "hasBy", desc := "(II)I" } : Jvm.MethodName)) ∈ lw_all := lw_g (lw_at lw_m11 157 rfl) rfl
theorem q2701 : (Jvm.Cond.privateMethod ({ cls := "VisitingHoursModel", name := "hasBy", desc := "(II)I" } : Jvm.MethodName)) ∈ lw_tbl := lw_at lw_m11 158 rfl
theorem q2702 : (Jvm.Cond.instanceMethod ({ cls := "VisitingHoursModel", name := "hasBy", desc := "(II)I" } : Jvm.MethodName)) ∈ lw_all := lw_g (lw_at lw_m11 159 rfl) rfl
theorem q2703 : (Jvm.Cond.code ({ cls := "VisitingHoursModel", name := "hasBy", desc := "(II)I" } : Jvm.MethodName) prog_19_method_117_code (3 : Nat) (Option.some Jvm.ClassFile.FieldType.int)) ∈ lw_all := lw_g (lw_at lw_m11 160 rfl) rfl
theorem q2705 : (Jvm.Cond.instanceMethod ({ cls := "VisitingHoursModel", name := "rests", desc := "(II)I" } : Jvm.MethodName)) ∈ lw_all := lw_g (lw_at lw_m11 162 rfl) rfl
theorem q2706 : (Jvm.Cond.selects "VisitingHoursModel" ({ cls := "VisitingHoursModel", name := "rests", desc := "(II)I" } : Jvm.MethodName) ({ cls := "VisitingHoursModel", name := "rests", desc := "(II)I" } : Jvm.MethodName)) ∈ lw_all := lw_g (lw_at lw_m11 163 rfl) rfl
theorem q2707 : (Jvm.Cond.code ({ cls := "VisitingHoursModel", name := "rests", desc := "(II)I" } : Jvm.MethodName) prog_19_method_121_code (7 : Nat) (Option.some Jvm.ClassFile.FieldType.int)) ∈ lw_all := lw_g (lw_at lw_m11 164 rfl) rfl
theorem q2708 : (Jvm.Cond.methodLink "VisitingHoursModel" (418 : Nat) ({ cls := "VisitingHoursModel", name := "gateHas", desc := "(II)I" } : Jvm.MethodName)) ∈ lw_all := lw_g (lw_at lw_m11 165 rfl) rfl
theorem q2709 : (Jvm.Cond.static ({ cls := "VisitingHoursModel", name := "gateHas", desc := "(II)I" } : Jvm.MethodName)) ∈ lw_all := lw_g (lw_at lw_m11 166 rfl) rfl
theorem q2710 : (Jvm.Cond.code ({ cls := "VisitingHoursModel", name := "gateHas", desc := "(II)I" } : Jvm.MethodName) prog_19_method_119_code (2 : Nat) (Option.some Jvm.ClassFile.FieldType.int)) ∈ lw_all := lw_g (lw_at lw_m11 167 rfl) rfl
theorem q2711 : (Jvm.Cond.methodLink "VisitingHoursModel" (421 : Nat) ({ cls := "VisitingHoursModel", name := "comerHas", desc := "(IIII)I" } : Jvm.MethodName)) ∈ lw_all := lw_g (lw_at lw_m11 168 rfl) rfl
theorem q2712 : (Jvm.Cond.privateMethod ({ cls := "VisitingHoursModel", name := "comerHas", desc := "(IIII)I" } : Jvm.MethodName)) ∈ lw_tbl := lw_at lw_m11 169 rfl
theorem q2713 : (Jvm.Cond.instanceMethod ({ cls := "VisitingHoursModel", name := "comerHas", desc := "(IIII)I" } : Jvm.MethodName)) ∈ lw_all := lw_g (lw_at lw_m11 170 rfl) rfl
theorem q2714 : (Jvm.Cond.code ({ cls := "VisitingHoursModel", name := "comerHas", desc := "(IIII)I" } : Jvm.MethodName) prog_19_method_120_code (5 : Nat) (Option.some Jvm.ClassFile.FieldType.int)) ∈ lw_all := lw_g (lw_at lw_m11 171 rfl) rfl
theorem q2716 : (Jvm.Cond.instanceMethod ({ cls := "VisitingHoursModel", name := "dearest", desc := "()I" } : Jvm.MethodName)) ∈ lw_all := lw_g (lw_at lw_m11 173 rfl) rfl
theorem q2717 : (Jvm.Cond.selects "VisitingHoursModel" ({ cls := "VisitingHoursModel", name := "dearest", desc := "()I" } : Jvm.MethodName) ({ cls := "VisitingHoursModel", name := "dearest", desc := "()I" } : Jvm.MethodName)) ∈ lw_all := lw_g (lw_at lw_m11 174 rfl) rfl
theorem q2718 : (Jvm.Cond.code ({ cls := "VisitingHoursModel", name := "dearest", desc := "()I" } : Jvm.MethodName) prog_19_method_122_code (3 : Nat) (Option.some Jvm.ClassFile.FieldType.int)) ∈ lw_all := lw_g (lw_at lw_m11 175 rfl) rfl
theorem q2720 : (Jvm.Cond.instanceMethod ({ cls := "VisitingHoursModel", name := "forlorn", desc := "()I" } : Jvm.MethodName)) ∈ lw_all := lw_g (lw_at lw_m11 177 rfl) rfl
theorem q2721 : (Jvm.Cond.selects "VisitingHoursModel" ({ cls := "VisitingHoursModel", name := "forlorn", desc := "()I" } : Jvm.MethodName) ({ cls := "VisitingHoursModel", name := "forlorn", desc := "()I" } : Jvm.MethodName)) ∈ lw_all := lw_g (lw_at lw_m11 178 rfl) rfl
theorem q2722 : (Jvm.Cond.code ({ cls := "VisitingHoursModel", name := "forlorn", desc := "()I" } : Jvm.MethodName) prog_19_method_123_code (6 : Nat) (Option.some Jvm.ClassFile.FieldType.int)) ∈ lw_all := lw_g (lw_at lw_m11 179 rfl) rfl
theorem q2724 : (Jvm.Cond.instanceMethod ({ cls := "VisitingHoursModel", name := "alike", desc := "()I" } : Jvm.MethodName)) ∈ lw_all := lw_g (lw_at lw_m11 181 rfl) rfl
theorem q2725 : (Jvm.Cond.selects "VisitingHoursModel" ({ cls := "VisitingHoursModel", name := "alike", desc := "()I" } : Jvm.MethodName) ({ cls := "VisitingHoursModel", name := "alike", desc := "()I" } : Jvm.MethodName)) ∈ lw_all := lw_g (lw_at lw_m11 182 rfl) rfl
theorem q2726 : (Jvm.Cond.code ({ cls := "VisitingHoursModel", name := "alike", desc := "()I" } : Jvm.MethodName) prog_19_method_125_code (4 : Nat) (Option.some Jvm.ClassFile.FieldType.int)) ∈ lw_all := lw_g (lw_at lw_m11 183 rfl) rfl
theorem q2727 : (Jvm.Cond.methodLink "VisitingHoursModel" (424 : Nat) ({ cls := "VisitingHoursModel", name := "areAlike", desc := "(II)Z" } : Jvm.MethodName)) ∈ lw_all := lw_g (lw_at lw_m11 184 rfl) rfl
theorem q2728 : (Jvm.Cond.privateMethod ({ cls := "VisitingHoursModel", name := "areAlike", desc := "(II)Z" } : Jvm.MethodName)) ∈ lw_tbl := lw_at lw_m11 185 rfl
theorem q2729 : (Jvm.Cond.instanceMethod ({ cls := "VisitingHoursModel", name := "areAlike", desc := "(II)Z" } : Jvm.MethodName)) ∈ lw_all := lw_g (lw_at lw_m11 186 rfl) rfl
theorem q2730 : (Jvm.Cond.code ({ cls := "VisitingHoursModel", name := "areAlike", desc := "(II)Z" } : Jvm.MethodName) prog_19_method_124_code (5 : Nat) (Option.some Jvm.ClassFile.FieldType.boolean)) ∈ lw_all := lw_g (lw_at lw_m11 187 rfl) rfl
theorem q2732 : (Jvm.Cond.instanceMethod ({ cls := "VisitingHoursModel", name := "settle", desc := "(I)I" } : Jvm.MethodName)) ∈ lw_all := lw_g (lw_at lw_m11 189 rfl) rfl
theorem q2733 : (Jvm.Cond.selects "VisitingHoursModel" ({ cls := "VisitingHoursModel", name := "settle", desc := "(I)I" } : Jvm.MethodName) ({ cls := "VisitingHoursModel", name := "settle", desc := "(I)I" } : Jvm.MethodName)) ∈ lw_all := lw_g (lw_at lw_m11 190 rfl) rfl
theorem q2734 : (Jvm.Cond.code ({ cls := "VisitingHoursModel", name := "settle", desc := "(I)I" } : Jvm.MethodName) prog_19_method_126_code (5 : Nat) (Option.some Jvm.ClassFile.FieldType.int)) ∈ lw_all := lw_g (lw_at lw_m11 191 rfl) rfl
theorem q2736 : (Jvm.Cond.instanceMethod ({ cls := "VisitingHoursModel", name := "gladder", desc := "(I)I" } : Jvm.MethodName)) ∈ lw_all := lw_g (lw_at lw_m11 193 rfl) rfl
theorem q2737 : (Jvm.Cond.selects "VisitingHoursModel" ({ cls := "VisitingHoursModel", name := "gladder", desc := "(I)I" } : Jvm.MethodName) ({ cls := "VisitingHoursModel", name := "gladder", desc := "(I)I" } : Jvm.MethodName)) ∈ lw_all := lw_g (lw_at lw_m11 194 rfl) rfl
theorem q2738 : (Jvm.Cond.code ({ cls := "VisitingHoursModel", name := "gladder", desc := "(I)I" } : Jvm.MethodName) prog_19_method_127_code (5 : Nat) (Option.some Jvm.ClassFile.FieldType.int)) ∈ lw_all := lw_g (lw_at lw_m11 195 rfl) rfl
theorem q2740 : (Jvm.Cond.instanceMethod ({ cls := "VisitingHoursModel", name := "ahead", desc := "(III)I" } : Jvm.MethodName)) ∈ lw_all := lw_g (lw_at lw_m11 197 rfl) rfl
theorem q2741 : (Jvm.Cond.selects "VisitingHoursModel" ({ cls := "VisitingHoursModel", name := "ahead", desc := "(III)I" } : Jvm.MethodName) ({ cls := "VisitingHoursModel", name := "ahead", desc := "(III)I" } : Jvm.MethodName)) ∈ lw_all := lw_g (lw_at lw_m11 198 rfl) rfl
theorem q2742 : (Jvm.Cond.code ({ cls := "VisitingHoursModel", name := "ahead", desc := "(III)I" } : Jvm.MethodName) prog_19_method_128_code (6 : Nat) (Option.some Jvm.ClassFile.FieldType.int)) ∈ lw_all := lw_g (lw_at lw_m11 199 rfl) rfl
theorem q2744 : (Jvm.Cond.instanceMethod ({ cls := "VisitingHoursModel", name := "trial", desc := "(IZ)I" } : Jvm.MethodName)) ∈ lw_all := lw_g (lw_at lw_m11 201 rfl) rfl
theorem q2745 : (Jvm.Cond.selects "VisitingHoursModel" ({ cls := "VisitingHoursModel", name := "trial", desc := "(IZ)I" } : Jvm.MethodName) ({ cls := "VisitingHoursModel", name := "trial", desc := "(IZ)I" } : Jvm.MethodName)) ∈ lw_all := lw_g (lw_at lw_m11 202 rfl) rfl
theorem q2746 : (Jvm.Cond.code ({ cls := "VisitingHoursModel", name := "trial", desc := "(IZ)I" } : Jvm.MethodName) prog_19_method_129_code (5 : Nat) (Option.some Jvm.ClassFile.FieldType.int)) ∈ lw_all := lw_g (lw_at lw_m11 203 rfl) rfl
theorem q2748 : (Jvm.Cond.instanceMethod ({ cls := "VisitingHoursModel", name := "span", desc := "(IZ)I" } : Jvm.MethodName)) ∈ lw_all := lw_g (lw_at lw_m11 205 rfl) rfl
theorem q2749 : (Jvm.Cond.selects "VisitingHoursModel" ({ cls := "VisitingHoursModel", name := "span", desc := "(IZ)I" } : Jvm.MethodName) ({ cls := "VisitingHoursModel", name := "span", desc := "(IZ)I" } : Jvm.MethodName)) ∈ lw_all := lw_g (lw_at lw_m11 206 rfl) rfl
theorem q2750 : (Jvm.Cond.code ({ cls := "VisitingHoursModel", name := "span", desc := "(IZ)I" } : Jvm.MethodName) prog_19_method_130_code (7 : Nat) (Option.some Jvm.ClassFile.FieldType.int)) ∈ lw_all := lw_g (lw_at lw_m11 207 rfl) rfl
theorem q2752 : (Jvm.Cond.instanceMethod ({ cls := "VisitingHoursModel", name := "led", desc := "(IZ)I" } : Jvm.MethodName)) ∈ lw_all := lw_g (lw_at lw_m11 209 rfl) rfl
theorem q2753 : (Jvm.Cond.selects "VisitingHoursModel" ({ cls := "VisitingHoursModel", name := "led", desc := "(IZ)I" } : Jvm.MethodName) ({ cls := "VisitingHoursModel", name := "led", desc := "(IZ)I" } : Jvm.MethodName)) ∈ lw_all := lw_g (lw_at lw_m11 210 rfl) rfl
theorem q2754 : (Jvm.Cond.code ({ cls := "VisitingHoursModel", name := "led", desc := "(IZ)I" } : Jvm.MethodName) prog_19_method_132_code (6 : Nat) (Option.some Jvm.ClassFile.FieldType.int)) ∈ lw_all := lw_g (lw_at lw_m11 211 rfl) rfl
theorem q2755 : (Jvm.Cond.methodLink "VisitingHoursModel" (427 : Nat) ({ cls := "VisitingHoursModel", name := "logged", desc := "(II)I" } : Jvm.MethodName)) ∈ lw_all := lw_g (lw_at lw_m11 212 rfl) rfl
theorem q2756 : (Jvm.Cond.privateMethod ({ cls := "VisitingHoursModel", name := "logged", desc := "(II)I" } : Jvm.MethodName)) ∈ lw_tbl := lw_at lw_m11 213 rfl
theorem q2757 : (Jvm.Cond.instanceMethod ({ cls := "VisitingHoursModel", name := "logged", desc := "(II)I" } : Jvm.MethodName)) ∈ lw_all := lw_g (lw_at lw_m11 214 rfl) rfl
theorem q2758 : (Jvm.Cond.code ({ cls := "VisitingHoursModel", name := "logged", desc := "(II)I" } : Jvm.MethodName) prog_19_method_131_code (3 : Nat) (Option.some Jvm.ClassFile.FieldType.int)) ∈ lw_all := lw_g (lw_at lw_m11 215 rfl) rfl
theorem q2760 : (Jvm.Cond.instanceMethod ({ cls := "VisitingHoursModel", name := "log", desc := "(II)I" } : Jvm.MethodName)) ∈ lw_all := lw_g (lw_at lw_m11 217 rfl) rfl
theorem q2761 : (Jvm.Cond.selects "VisitingHoursModel" ({ cls := "VisitingHoursModel", name := "log", desc := "(II)I" } : Jvm.MethodName) ({ cls := "VisitingHoursModel", name := "log", desc := "(II)I" } : Jvm.MethodName)) ∈ lw_all := lw_g (lw_at lw_m11 218 rfl) rfl
theorem q2762 : (Jvm.Cond.code ({ cls := "VisitingHoursModel", name := "log", desc := "(II)I" } : Jvm.MethodName) prog_19_method_133_code (3 : Nat) (Option.some Jvm.ClassFile.FieldType.int)) ∈ lw_all := lw_g (lw_at lw_m11 219 rfl) rfl
theorem q2764 : (Jvm.Cond.instanceMethod ({ cls := "VisitingHoursModel", name := "seed", desc := "(I)I" } : Jvm.MethodName)) ∈ lw_all := lw_g (lw_at lw_m11 221 rfl) rfl
theorem q2765 : (Jvm.Cond.selects "VisitingHoursModel" ({ cls := "VisitingHoursModel", name := "seed", desc := "(I)I" } : Jvm.MethodName) ({ cls := "VisitingHoursModel", name := "seed", desc := "(I)I" } : Jvm.MethodName)) ∈ lw_all := lw_g (lw_at lw_m11 222 rfl) rfl
theorem q2766 : (Jvm.Cond.code ({ cls := "VisitingHoursModel", name := "seed", desc := "(I)I" } : Jvm.MethodName) prog_19_method_134_code (3 : Nat) (Option.some Jvm.ClassFile.FieldType.int)) ∈ lw_all := lw_g (lw_at lw_m11 223 rfl) rfl
theorem q2768 : (Jvm.Cond.instanceMethod ({ cls := "VisitingHoursModel", name := "undo", desc := "()Z" } : Jvm.MethodName)) ∈ lw_all := lw_g (lw_at lw_m11 225 rfl) rfl
theorem q2769 : (Jvm.Cond.selects "VisitingHoursModel" ({ cls := "VisitingHoursModel", name := "undo", desc := "()Z" } : Jvm.MethodName) ({ cls := "VisitingHoursModel", name := "undo", desc := "()Z" } : Jvm.MethodName)) ∈ lw_all := lw_g (lw_at lw_m11 226 rfl) rfl
theorem q2770 : (Jvm.Cond.code ({ cls := "VisitingHoursModel", name := "undo", desc := "()Z" } : Jvm.MethodName) prog_19_method_135_code (2 : Nat) (Option.some Jvm.ClassFile.FieldType.boolean)) ∈ lw_all := lw_g (lw_at lw_m11 227 rfl) rfl
theorem q2772 : (Jvm.Cond.instanceMethod ({ cls := "VisitingHoursModel", name := "image", desc := "()V" } : Jvm.MethodName)) ∈ lw_all := lw_g (lw_at lw_m11 229 rfl) rfl
theorem q2773 : (Jvm.Cond.selects "VisitingHoursModel" ({ cls := "VisitingHoursModel", name := "image", desc := "()V" } : Jvm.MethodName) ({ cls := "VisitingHoursModel", name := "image", desc := "()V" } : Jvm.MethodName)) ∈ lw_all := lw_g (lw_at lw_m11 230 rfl) rfl
theorem q2774 : (Jvm.Cond.code ({ cls := "VisitingHoursModel", name := "image", desc := "()V" } : Jvm.MethodName) prog_19_method_136_code (2 : Nat) (Option.none : Option Jvm.ClassFile.FieldType)) ∈ lw_all := lw_g (lw_at lw_m11 231 rfl) rfl
theorem q2776 : (Jvm.Cond.instanceMethod ({ cls := "VisitingHoursModel", name := "back", desc := "()Z" } : Jvm.MethodName)) ∈ lw_all := lw_g (lw_at lw_m11 233 rfl) rfl
theorem q2777 : (Jvm.Cond.selects "VisitingHoursModel" ({ cls := "VisitingHoursModel", name := "back", desc := "()Z" } : Jvm.MethodName) ({ cls := "VisitingHoursModel", name := "back", desc := "()Z" } : Jvm.MethodName)) ∈ lw_all := lw_g (lw_at lw_m11 234 rfl) rfl
theorem q2778 : (Jvm.Cond.code ({ cls := "VisitingHoursModel", name := "back", desc := "()Z" } : Jvm.MethodName) prog_19_method_137_code (2 : Nat) (Option.some Jvm.ClassFile.FieldType.boolean)) ∈ lw_all := lw_g (lw_at lw_m11 235 rfl) rfl
theorem q2780 : (Jvm.Cond.instanceMethod ({ cls := "VisitingHoursModel", name := "count", desc := "(I)I" } : Jvm.MethodName)) ∈ lw_all := lw_g (lw_at lw_m11 237 rfl) rfl
theorem q2781 : (Jvm.Cond.selects "VisitingHoursModel" ({ cls := "VisitingHoursModel", name := "count", desc := "(I)I" } : Jvm.MethodName) ({ cls := "VisitingHoursModel", name := "count", desc := "(I)I" } : Jvm.MethodName)) ∈ lw_all := lw_g (lw_at lw_m11 238 rfl) rfl
theorem q2782 : (Jvm.Cond.code ({ cls := "VisitingHoursModel", name := "count", desc := "(I)I" } : Jvm.MethodName) prog_19_method_139_code (2 : Nat) (Option.some Jvm.ClassFile.FieldType.int)) ∈ lw_all := lw_g (lw_at lw_m11 239 rfl) rfl
theorem q2783 : (Jvm.Cond.methodLink "VisitingHoursModel" (433 : Nat) ({ cls := "VisitingHoursModel", name := "bookings", desc := "()I" } : Jvm.MethodName)) ∈ lw_all := lw_g (lw_at lw_m12 0 rfl) rfl
theorem q2784 : (Jvm.Cond.privateMethod ({ cls := "VisitingHoursModel", name := "bookings", desc := "()I" } : Jvm.MethodName)) ∈ lw_tbl := lw_at lw_m12 1 rfl
theorem q2785 : (Jvm.Cond.instanceMethod ({ cls := "VisitingHoursModel", name := "bookings", desc := "()I" } : Jvm.MethodName)) ∈ lw_all := lw_g (lw_at lw_m12 2 rfl) rfl
theorem q2786 : (Jvm.Cond.code ({ cls := "VisitingHoursModel", name := "bookings", desc := "()I" } : Jvm.MethodName) prog_19_method_138_code (4 : Nat) (Option.some Jvm.ClassFile.FieldType.int)) ∈ lw_all := lw_g (lw_at lw_m12 3 rfl) rfl
theorem q2808 : (Jvm.Cond.castable "VisitingHoursModel" "java/lang/Object") ∈ lw_tbl := lw_at lw_m12 25 rfl
theorem in_X6 : ∀ w ∈ wsX60, w ∈ lw_all := lw_in wsX60 [2156, 2158, 2160, 2162, 2164, 2166, 2168, 2170, 2172, 2174, 2176, 2178, 2180, 2182, 2184, 2186, 2188, 2190, 2192, 2194, 2196, 2198, 2200, 2202, 2204, 2206, 2208, 2210] (by decide +kernel) (by decide +kernel)
