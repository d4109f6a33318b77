/-! ===== CONSTANTS: ids 0 .. 69 (69: the script): strings (2i: the String, 2i+1: its bytes), enum constants, tables ===== -/
abbrev jC : Type := (Nat × vp_A) ⊕ (Nat × List Value)
def jTF : u_T := fun k => match k with
  | 0 => ("java/lang/Enum", "ordinal", "I", true)
  | _ => ("VisitingHours$Fact", "told", "Ljava/lang/String;", true)
def jTK : u_T := fun k => match k with
  | 0 => ("java/lang/Enum", "ordinal", "I", true)
  | _ => ("VisitingHours$Kind", "told", "Ljava/lang/String;", true)
abbrev jcl : List vw_C := [(RX1, TX1, 16), (RX2, TX2, 22), (RX3, TX3, 7), (RX4, TX4, 9), (RX5, TX5, 7), (RX6, TX6, 28), (RX7, TX7, 6), (RX8, TX8, 1), (RX10, TX10, 3), (RX11, TX11, 2), (RX12, TX12, 1), (RX13, TX13, 1), (RX14, TX14, 1), (RX15, TX15, 2), (RX17, TX17, 2), (RJ2, TJ2, 3), (RJ4, TJ4, 4), (RJ5, TJ5, 4)]
abbrev jccl : List vw_C := jcl ++ [(RX16, jTF, 2), (RX9, jTK, 2)]
def jty : Nat → FieldType := fun k => match k with
  | 0 => .int
  | 1 => .byte
  | 2 => .boolean
  | 3 => .long
  | 4 => .array .int
  | 5 => .object "java/lang/Object"
  | 6 => .object "VisitingHours$Fact"
  | _ => .object "VisitingHours$Kind"
abbrev jtys (dA : Nat → ClassId) : List (ClassId × FieldType) := [(dA 0, .int), (dA 1, .byte), (dA 2, .boolean), (dA 3, .long), (dA 4, .array .int), (dA 5, .object "java/lang/Object"), (dA 6, .object "VisitingHours$Fact"), (dA 7, .object "VisitingHours$Kind")]
/-- the texts of the constants -/
def jtx : Nat → List Int32 := fun k => match k with
  | 0 => [104, 111, 115, 116]
  | 1 => [103, 117, 101, 115, 116]
  | 2 => [108, 105, 107, 101, 115]
  | 3 => [108, 111, 118, 101, 115]
  | 4 => [114, 97, 105, 110]
  | 5 => [119, 101, 101, 107]
  | 6 => [110, 101, 101, 100, 115]
  | 7 => [98, 97, 114, 115]
  | 8 => [112, 97, 116, 105, 101, 110, 99, 101]
  | 9 => [102, 114, 111, 109]
  | 10 => [116, 111]
  | 11 => [115, 116, 97, 121]
  | 12 => [109, 97, 114, 107, 115]
  | 13 => [105, 102]
  | 14 => [110, 111, 116]
  | 15 => [109, 97, 114, 107, 101, 100]
  | 16 => [101, 120, 112, 101, 99, 116, 101, 100]
  | 17 => [97, 110, 100]
  | 18 => [111, 114]
  | 19 => [103, 108, 97, 100]
  | 20 => [115, 111, 117, 114]
  | 21 => [97, 100, 109, 105, 116]
  | 22 => [113, 117, 97, 114, 116, 101, 114]
  | 23 => [108, 111, 110, 101, 108, 121]
  | 24 => [114, 97, 110, 107]
  | 25 => [108, 111, 118, 101, 100]
  | _ => []
def jcon : List jC := [
  .inr (17, [.ref 1, .int 0]),
  .inl (1, (4, .inl (fun j => (jtx 0).getD j 0))),
  .inr (17, [.ref 3, .int 0]),
  .inl (1, (5, .inl (fun j => (jtx 1).getD j 0))),
  .inr (17, [.ref 5, .int 0]),
  .inl (1, (5, .inl (fun j => (jtx 2).getD j 0))),
  .inr (17, [.ref 7, .int 0]),
  .inl (1, (5, .inl (fun j => (jtx 3).getD j 0))),
  .inr (17, [.ref 9, .int 0]),
  .inl (1, (4, .inl (fun j => (jtx 4).getD j 0))),
  .inr (17, [.ref 11, .int 0]),
  .inl (1, (4, .inl (fun j => (jtx 5).getD j 0))),
  .inr (17, [.ref 13, .int 0]),
  .inl (1, (5, .inl (fun j => (jtx 6).getD j 0))),
  .inr (17, [.ref 15, .int 0]),
  .inl (1, (4, .inl (fun j => (jtx 7).getD j 0))),
  .inr (17, [.ref 17, .int 0]),
  .inl (1, (8, .inl (fun j => (jtx 8).getD j 0))),
  .inr (17, [.ref 19, .int 0]),
  .inl (1, (4, .inl (fun j => (jtx 9).getD j 0))),
  .inr (17, [.ref 21, .int 0]),
  .inl (1, (2, .inl (fun j => (jtx 10).getD j 0))),
  .inr (17, [.ref 23, .int 0]),
  .inl (1, (4, .inl (fun j => (jtx 11).getD j 0))),
  .inr (17, [.ref 25, .int 0]),
  .inl (1, (5, .inl (fun j => (jtx 12).getD j 0))),
  .inr (17, [.ref 27, .int 0]),
  .inl (1, (2, .inl (fun j => (jtx 13).getD j 0))),
  .inr (17, [.ref 29, .int 0]),
  .inl (1, (3, .inl (fun j => (jtx 14).getD j 0))),
  .inr (17, [.ref 31, .int 0]),
  .inl (1, (6, .inl (fun j => (jtx 15).getD j 0))),
  .inr (17, [.ref 33, .int 0]),
  .inl (1, (8, .inl (fun j => (jtx 16).getD j 0))),
  .inr (17, [.ref 35, .int 0]),
  .inl (1, (3, .inl (fun j => (jtx 17).getD j 0))),
  .inr (17, [.ref 37, .int 0]),
  .inl (1, (2, .inl (fun j => (jtx 18).getD j 0))),
  .inr (17, [.ref 39, .int 0]),
  .inl (1, (4, .inl (fun j => (jtx 19).getD j 0))),
  .inr (17, [.ref 41, .int 0]),
  .inl (1, (4, .inl (fun j => (jtx 20).getD j 0))),
  .inr (17, [.ref 43, .int 0]),
  .inl (1, (5, .inl (fun j => (jtx 21).getD j 0))),
  .inr (17, [.ref 45, .int 0]),
  .inl (1, (7, .inl (fun j => (jtx 22).getD j 0))),
  .inr (17, [.ref 47, .int 0]),
  .inl (1, (6, .inl (fun j => (jtx 23).getD j 0))),
  .inr (17, [.ref 49, .int 0]),
  .inl (1, (4, .inl (fun j => (jtx 24).getD j 0))),
  .inr (17, [.ref 51, .int 0]),
  .inl (1, (5, .inl (fun j => (jtx 25).getD j 0))),
  .inr (18, [.int 0, .ref 0]),
  .inr (18, [.int 1, .ref 2]),
  .inr (18, [.int 2, .ref 44]),
  .inr (18, [.int 3, .ref 46]),
  .inr (18, [.int 4, .ref 48]),
  .inr (18, [.int 5, .ref 50]),
  .inr (18, [.int 6, .ref 10]),
  .inr (19, [.int 0, .ref 38]),
  .inr (19, [.int 1, .ref 40]),
  .inr (19, [.int 2, .ref 42]),
  .inl (6, (7, .inr (.inr (.inr (.inr (fun j => if j < 7 then some (52 + j) else none)))))),
  .inl (7, (3, .inr (.inr (.inr (.inr (fun j => if j < 3 then some (59 + j) else none)))))),
  .inl (5, (0, .inr (.inr (.inr (.inr (fun _ => none)))))),
  .inl (3, (0, .inr (.inl (fun _ => 0)))),
  .inl (3, (0, .inr (.inl (fun _ => 0)))),
  .inl (3, (0, .inr (.inl (fun _ => 0)))),
  .inl (3, (0, .inr (.inl (fun _ => 0)))),
  .inl (3, (0, .inr (.inl (fun _ => 0))))]
abbrev jn : Nat := 70
theorem jcon_len : jcon.length = jn := rfl
/-- statics: class, name, descriptor, what they hold -/
def jst : List (String × String × String × Value) := [("VisitingHours$Kind", "ADMIT", "LVisitingHours$Kind;", .ref 61), ("VisitingHours$Kind", "GLAD", "LVisitingHours$Kind;", .ref 59), ("VisitingHours$Kind", "$VALUES", "[LVisitingHours$Kind;", .ref 63), ("VisitingHours$Fact", "$VALUES", "[LVisitingHours$Fact;", .ref 62), ("java/util/ArrayList", "DEFAULTCAPACITY_EMPTY_ELEMENTDATA", "[Ljava/lang/Object;", .ref 64), ("java/lang/String", "COMPACT_STRINGS", "Z", .int 1)]
/-- statics of which only a reference or null is known: class, name, descriptor, id -/
def jzq : List (String × String × String × Nat) := [("java/lang/Throwable", "UNASSIGNED_STACK", "[Ljava/lang/StackTraceElement;", 65), ("java/lang/Throwable", "SUPPRESSED_SENTINEL", "Ljava/util/List;", 66), ("jdk/internal/util/Preconditions", "SIOOBE_FORMATTER", "Ljava/util/function/BiFunction;", 67)]
/-- ldc sites: class, entry, text, id -/
def jld : List (String × Nat × String × Nat) := [
  ("VisitingHours", 202, "host", 0),
  ("VisitingHours", 204, "guest", 2),
  ("VisitingHours", 206, "likes", 4),
  ("VisitingHours", 207, "loves", 6),
  ("VisitingHours", 208, "rain", 8),
  ("VisitingHours", 210, "week", 10),
  ("VisitingHours", 212, "needs", 12),
  ("VisitingHours", 213, "bars", 14),
  ("VisitingHours", 138, "patience", 16),
  ("VisitingHours", 108, "from", 18),
  ("VisitingHours", 114, "to", 20),
  ("VisitingHours", 174, "stay", 22),
  ("VisitingHours", 181, "marks", 24),
  ("VisitingHours", 367, "if", 26),
  ("VisitingHours", 316, "not", 28),
  ("VisitingHours", 325, "marked", 30),
  ("VisitingHours", 332, "expected", 32),
  ("VisitingHours", 349, "and", 34),
  ("VisitingHours", 354, "or", 36),
  ("VisitingHoursModel", 252, "glad", 38),
  ("VisitingHoursModel", 254, "sour", 40),
  ("VisitingHoursModel", 256, "admit", 42),
  ("VisitingHoursModel", 258, "if", 26),
  ("VisitingHoursModel", 233, "not", 28),
  ("VisitingHoursModel", 219, "marked", 30),
  ("VisitingHoursModel", 225, "expected", 32),
  ("VisitingHoursModel", 151, "host", 0),
  ("VisitingHoursModel", 156, "guest", 2),
  ("VisitingHoursModel", 208, "quarter", 44),
  ("VisitingHoursModel", 210, "lonely", 46),
  ("VisitingHoursModel", 212, "rank", 48),
  ("VisitingHoursModel", 214, "loved", 50),
  ("VisitingHoursModel", 173, "week", 10),
  ("VisitingHoursModel", 245, "and", 34),
  ("VisitingHoursModel", 250, "or", 36),
  ("VisitingHoursModel", 135, "patience", 16),
  ("VisitingHoursModel", 127, "from", 18),
  ("VisitingHoursModel", 133, "to", 20),
  ("VisitingHoursModel", 144, "stay", 22),
  ("VisitingHoursModel", 146, "marks", 24),
  ("VisitingHoursModel", 161, "likes", 4),
  ("VisitingHoursModel", 166, "loves", 6),
  ("VisitingHoursModel", 168, "rain", 8),
  ("VisitingHoursModel", 175, "needs", 12),
  ("VisitingHoursModel", 177, "bars", 14),
  ("VisitingHours$Kind", 56, "admit", 42),
  ("VisitingHours$Kind", 47, "glad", 38),
  ("VisitingHours$Kind", 53, "sour", 40),
  ("VisitingHours$Fact", 59, "host", 0),
  ("VisitingHours$Fact", 65, "guest", 2),
  ("VisitingHours$Fact", 68, "quarter", 44),
  ("VisitingHours$Fact", 71, "lonely", 46),
  ("VisitingHours$Fact", 74, "rank", 48),
  ("VisitingHours$Fact", 77, "loved", 50),
  ("VisitingHours$Fact", 80, "week", 10)]
theorem jl_1262 : (("VisitingHours", 202, "host", 0) : String × Nat × String × Nat) ∈ jld := List.mem_of_getElem? (i := 0) rfl
theorem jl_1271 : (("VisitingHours", 204, "guest", 2) : String × Nat × String × Nat) ∈ jld := List.mem_of_getElem? (i := 1) rfl
theorem jl_1272 : (("VisitingHours", 206, "likes", 4) : String × Nat × String × Nat) ∈ jld := List.mem_of_getElem? (i := 2) rfl
theorem jl_1273 : (("VisitingHours", 207, "loves", 6) : String × Nat × String × Nat) ∈ jld := List.mem_of_getElem? (i := 3) rfl
theorem jl_1274 : (("VisitingHours", 208, "rain", 8) : String × Nat × String × Nat) ∈ jld := List.mem_of_getElem? (i := 4) rfl
theorem jl_1275 : (("VisitingHours", 210, "week", 10) : String × Nat × String × Nat) ∈ jld := List.mem_of_getElem? (i := 5) rfl
theorem jl_1276 : (("VisitingHours", 212, "needs", 12) : String × Nat × String × Nat) ∈ jld := List.mem_of_getElem? (i := 6) rfl
theorem jl_1277 : (("VisitingHours", 213, "bars", 14) : String × Nat × String × Nat) ∈ jld := List.mem_of_getElem? (i := 7) rfl
theorem jl_1282 : (("VisitingHours", 138, "patience", 16) : String × Nat × String × Nat) ∈ jld := List.mem_of_getElem? (i := 8) rfl
theorem jl_1304 : (("VisitingHours", 108, "from", 18) : String × Nat × String × Nat) ∈ jld := List.mem_of_getElem? (i := 9) rfl
theorem jl_1305 : (("VisitingHours", 114, "to", 20) : String × Nat × String × Nat) ∈ jld := List.mem_of_getElem? (i := 10) rfl
theorem jl_1316 : (("VisitingHours", 174, "stay", 22) : String × Nat × String × Nat) ∈ jld := List.mem_of_getElem? (i := 11) rfl
theorem jl_1317 : (("VisitingHours", 181, "marks", 24) : String × Nat × String × Nat) ∈ jld := List.mem_of_getElem? (i := 12) rfl
theorem jl_1431 : (("VisitingHours", 367, "if", 26) : String × Nat × String × Nat) ∈ jld := List.mem_of_getElem? (i := 13) rfl
theorem jl_1468 : (("VisitingHours", 316, "not", 28) : String × Nat × String × Nat) ∈ jld := List.mem_of_getElem? (i := 14) rfl
theorem jl_1479 : (("VisitingHours", 325, "marked", 30) : String × Nat × String × Nat) ∈ jld := List.mem_of_getElem? (i := 15) rfl
theorem jl_1490 : (("VisitingHours", 332, "expected", 32) : String × Nat × String × Nat) ∈ jld := List.mem_of_getElem? (i := 16) rfl
theorem jl_1616 : (("VisitingHours", 349, "and", 34) : String × Nat × String × Nat) ∈ jld := List.mem_of_getElem? (i := 17) rfl
theorem jl_1617 : (("VisitingHours", 354, "or", 36) : String × Nat × String × Nat) ∈ jld := List.mem_of_getElem? (i := 18) rfl
theorem jl_2261 : (("VisitingHoursModel", 252, "glad", 38) : String × Nat × String × Nat) ∈ jld := List.mem_of_getElem? (i := 19) rfl
theorem jl_2268 : (("VisitingHoursModel", 254, "sour", 40) : String × Nat × String × Nat) ∈ jld := List.mem_of_getElem? (i := 20) rfl
theorem jl_2269 : (("VisitingHoursModel", 256, "admit", 42) : String × Nat × String × Nat) ∈ jld := List.mem_of_getElem? (i := 21) rfl
theorem jl_2278 : (("VisitingHoursModel", 258, "if", 26) : String × Nat × String × Nat) ∈ jld := List.mem_of_getElem? (i := 22) rfl
theorem jl_2291 : (("VisitingHoursModel", 233, "not", 28) : String × Nat × String × Nat) ∈ jld := List.mem_of_getElem? (i := 23) rfl
theorem jl_2300 : (("VisitingHoursModel", 219, "marked", 30) : String × Nat × String × Nat) ∈ jld := List.mem_of_getElem? (i := 24) rfl
theorem jl_2301 : (("VisitingHoursModel", 225, "expected", 32) : String × Nat × String × Nat) ∈ jld := List.mem_of_getElem? (i := 25) rfl
theorem jl_2310 : (("VisitingHoursModel", 151, "host", 0) : String × Nat × String × Nat) ∈ jld := List.mem_of_getElem? (i := 26) rfl
theorem jl_2311 : (("VisitingHoursModel", 156, "guest", 2) : String × Nat × String × Nat) ∈ jld := List.mem_of_getElem? (i := 27) rfl
theorem jl_2312 : (("VisitingHoursModel", 208, "quarter", 44) : String × Nat × String × Nat) ∈ jld := List.mem_of_getElem? (i := 28) rfl
theorem jl_2313 : (("VisitingHoursModel", 210, "lonely", 46) : String × Nat × String × Nat) ∈ jld := List.mem_of_getElem? (i := 29) rfl
theorem jl_2314 : (("VisitingHoursModel", 212, "rank", 48) : String × Nat × String × Nat) ∈ jld := List.mem_of_getElem? (i := 30) rfl
theorem jl_2315 : (("VisitingHoursModel", 214, "loved", 50) : String × Nat × String × Nat) ∈ jld := List.mem_of_getElem? (i := 31) rfl
theorem jl_2316 : (("VisitingHoursModel", 173, "week", 10) : String × Nat × String × Nat) ∈ jld := List.mem_of_getElem? (i := 32) rfl
theorem jl_2317 : (("VisitingHoursModel", 245, "and", 34) : String × Nat × String × Nat) ∈ jld := List.mem_of_getElem? (i := 33) rfl
theorem jl_2318 : (("VisitingHoursModel", 250, "or", 36) : String × Nat × String × Nat) ∈ jld := List.mem_of_getElem? (i := 34) rfl
theorem jl_2327 : (("VisitingHoursModel", 135, "patience", 16) : String × Nat × String × Nat) ∈ jld := List.mem_of_getElem? (i := 35) rfl
theorem jl_2336 : (("VisitingHoursModel", 127, "from", 18) : String × Nat × String × Nat) ∈ jld := List.mem_of_getElem? (i := 36) rfl
theorem jl_2337 : (("VisitingHoursModel", 133, "to", 20) : String × Nat × String × Nat) ∈ jld := List.mem_of_getElem? (i := 37) rfl
theorem jl_2346 : (("VisitingHoursModel", 144, "stay", 22) : String × Nat × String × Nat) ∈ jld := List.mem_of_getElem? (i := 38) rfl
theorem jl_2347 : (("VisitingHoursModel", 146, "marks", 24) : String × Nat × String × Nat) ∈ jld := List.mem_of_getElem? (i := 39) rfl
theorem jl_2358 : (("VisitingHoursModel", 161, "likes", 4) : String × Nat × String × Nat) ∈ jld := List.mem_of_getElem? (i := 40) rfl
theorem jl_2363 : (("VisitingHoursModel", 166, "loves", 6) : String × Nat × String × Nat) ∈ jld := List.mem_of_getElem? (i := 41) rfl
theorem jl_2364 : (("VisitingHoursModel", 168, "rain", 8) : String × Nat × String × Nat) ∈ jld := List.mem_of_getElem? (i := 42) rfl
theorem jl_2369 : (("VisitingHoursModel", 175, "needs", 12) : String × Nat × String × Nat) ∈ jld := List.mem_of_getElem? (i := 43) rfl
theorem jl_2370 : (("VisitingHoursModel", 177, "bars", 14) : String × Nat × String × Nat) ∈ jld := List.mem_of_getElem? (i := 44) rfl
theorem jl_2844 : (("VisitingHours$Kind", 56, "admit", 42) : String × Nat × String × Nat) ∈ jld := List.mem_of_getElem? (i := 45) rfl
theorem jl_2845 : (("VisitingHours$Kind", 47, "glad", 38) : String × Nat × String × Nat) ∈ jld := List.mem_of_getElem? (i := 46) rfl
theorem jl_2854 : (("VisitingHours$Kind", 53, "sour", 40) : String × Nat × String × Nat) ∈ jld := List.mem_of_getElem? (i := 47) rfl
theorem jl_2855 : (("VisitingHours$Fact", 59, "host", 0) : String × Nat × String × Nat) ∈ jld := List.mem_of_getElem? (i := 48) rfl
theorem jl_2856 : (("VisitingHours$Fact", 65, "guest", 2) : String × Nat × String × Nat) ∈ jld := List.mem_of_getElem? (i := 49) rfl
theorem jl_2857 : (("VisitingHours$Fact", 68, "quarter", 44) : String × Nat × String × Nat) ∈ jld := List.mem_of_getElem? (i := 50) rfl
theorem jl_2858 : (("VisitingHours$Fact", 71, "lonely", 46) : String × Nat × String × Nat) ∈ jld := List.mem_of_getElem? (i := 51) rfl
theorem jl_2859 : (("VisitingHours$Fact", 74, "rank", 48) : String × Nat × String × Nat) ∈ jld := List.mem_of_getElem? (i := 52) rfl
theorem jl_2860 : (("VisitingHours$Fact", 77, "loved", 50) : String × Nat × String × Nat) ∈ jld := List.mem_of_getElem? (i := 53) rfl
theorem jl_2861 : (("VisitingHours$Fact", 80, "week", 10) : String × Nat × String × Nat) ∈ jld := List.mem_of_getElem? (i := 54) rfl
/-- words that a body carries from the start -/
def jnw : List Cond := [
  (Jvm.Cond.methodLinkNest "VisitingHours" (9 : Nat) ({ cls := "VisitingHours$World", name := "<init>", desc := "()V" } : Jvm.MethodName) "VisitingHours"),
  (Jvm.Cond.fieldLinkNest "VisitingHours" (271 : Nat) "VisitingHours$World" "texts" "I" "VisitingHours"),
  (Jvm.Cond.fieldLinkNest "VisitingHours$Pairs" (65 : Nat) "VisitingHours$World" "hosts" "I" "VisitingHours"),
  (Jvm.Cond.fieldLinkNest "VisitingHours" (132 : Nat) "VisitingHours$World" "hosts" "I" "VisitingHours"),
  (Jvm.Cond.fieldLinkNest "VisitingHours$Pairs" (54 : Nat) "VisitingHours$World" "guests" "I" "VisitingHours"),
  (Jvm.Cond.fieldLinkNest "VisitingHours" (168 : Nat) "VisitingHours$World" "guests" "I" "VisitingHours"),
  (Jvm.Cond.fieldLinkNest "VisitingHours" (225 : Nat) "VisitingHours$World" "rain" "I" "VisitingHours"),
  (Jvm.Cond.fieldLinkNest "VisitingHours" (229 : Nat) "VisitingHours$World" "must" "I" "VisitingHours"),
  (Jvm.Cond.fieldLinkNest "VisitingHours" (231 : Nat) "VisitingHours$World" "not" "I" "VisitingHours"),
  (Jvm.Cond.fieldLinkNest "VisitingHours" (227 : Nat) "VisitingHours$World" "week" "I" "VisitingHours"),
  (Jvm.Cond.fieldLinkNest "VisitingHours" (678 : Nat) "VisitingHours$World" "logged" "I" "VisitingHours"),
  (Jvm.Cond.fieldLinkNest "VisitingHours" (672 : Nat) "VisitingHours$World" "seed" "I" "VisitingHours"),
  (Jvm.Cond.fieldLinkNest "VisitingHours" (135 : Nat) "VisitingHours$World" "patience" "[I" "VisitingHours"),
  (Jvm.Cond.fieldLinkNest "VisitingHours" (139 : Nat) "VisitingHours$World" "hours" "[I" "VisitingHours"),
  (Jvm.Cond.fieldLinkNest "VisitingHours" (145 : Nat) "VisitingHours$World" "glad" "[I" "VisitingHours"),
  (Jvm.Cond.fieldLinkNest "VisitingHours" (148 : Nat) "VisitingHours$World" "lonely" "[I" "VisitingHours"),
  (Jvm.Cond.fieldLinkNest "VisitingHours" (171 : Nat) "VisitingHours$World" "stay" "[I" "VisitingHours"),
  (Jvm.Cond.fieldLinkNest "VisitingHours" (175 : Nat) "VisitingHours$World" "times" "[I" "VisitingHours"),
  (Jvm.Cond.fieldLinkNest "VisitingHours" (178 : Nat) "VisitingHours$World" "marks" "[I" "VisitingHours"),
  (Jvm.Cond.fieldLinkNest "VisitingHours$Pairs" (41 : Nat) "VisitingHours$World" "likes" "[[I" "VisitingHours"),
  (Jvm.Cond.fieldLinkNest "VisitingHours" (155 : Nat) "VisitingHours$World" "likes" "[[I" "VisitingHours"),
  (Jvm.Cond.fieldLinkNest "VisitingHours$Pairs" (45 : Nat) "VisitingHours$World" "loves" "[[I" "VisitingHours"),
  (Jvm.Cond.fieldLinkNest "VisitingHours" (165 : Nat) "VisitingHours$World" "loves" "[[I" "VisitingHours"),
  (Jvm.Cond.fieldLinkNest "VisitingHours" (415 : Nat) "VisitingHours$World" "booked" "[[I" "VisitingHours"),
  (Jvm.Cond.fieldLinkNest "VisitingHours" (675 : Nat) "VisitingHours$World" "log" "[I" "VisitingHours"),
  (Jvm.Cond.fieldLinkNest "VisitingHours" (389 : Nat) "VisitingHours$World" "law" "LVisitingHours$Law;" "VisitingHours"),
  (Jvm.Cond.fieldLinkNest "VisitingHours" (663 : Nat) "VisitingHours$World" "settled" "I" "VisitingHours"),
  (Jvm.Cond.methodLinkNest "VisitingHours" (24 : Nat) ({ cls := "VisitingHours$Reader", name := "<init>", desc := "()V" } : Jvm.MethodName) "VisitingHours"),
  (Jvm.Cond.fieldLinkNest "VisitingHours" (561 : Nat) "VisitingHours$Reader" "tape" "[B" "VisitingHours"),
  (Jvm.Cond.fieldLinkNest "VisitingHours" (558 : Nat) "VisitingHours$Reader" "end" "I" "VisitingHours"),
  (Jvm.Cond.fieldLinkNest "VisitingHours" (192 : Nat) "VisitingHours$Reader" "at" "I" "VisitingHours"),
  (Jvm.Cond.fieldLinkNest "VisitingHours" (250 : Nat) "VisitingHours$Reader" "begin" "I" "VisitingHours"),
  (Jvm.Cond.fieldLinkNest "VisitingHours" (82 : Nat) "VisitingHours$Reader" "fault" "I" "VisitingHours"),
  (Jvm.Cond.methodLinkNest "VisitingHours" (31 : Nat) ({ cls := "VisitingHours$Scene", name := "<init>", desc := "()V" } : Jvm.MethodName) "VisitingHours"),
  (Jvm.Cond.fieldLinkNest "VisitingHours" (393 : Nat) "VisitingHours$Scene" "host" "I" "VisitingHours"),
  (Jvm.Cond.fieldLinkNest "VisitingHours" (395 : Nat) "VisitingHours$Scene" "guest" "I" "VisitingHours"),
  (Jvm.Cond.fieldLinkNest "VisitingHours" (397 : Nat) "VisitingHours$Scene" "quarter" "I" "VisitingHours"),
  (Jvm.Cond.fieldLinkNest "VisitingHours" (400 : Nat) "VisitingHours$Scene" "lonely" "I" "VisitingHours"),
  (Jvm.Cond.fieldLinkNest "VisitingHours$Law" (16 : Nat) "VisitingHours$Scene" "rank" "I" "VisitingHours"),
  (Jvm.Cond.fieldLinkNest "VisitingHours" (402 : Nat) "VisitingHours$Scene" "rank" "I" "VisitingHours"),
  (Jvm.Cond.fieldLinkNest "VisitingHours" (405 : Nat) "VisitingHours$Scene" "loved" "I" "VisitingHours"),
  (Jvm.Cond.fieldLinkNest "VisitingHours" (408 : Nat) "VisitingHours$Scene" "week" "I" "VisitingHours"),
  (Jvm.Cond.fieldLinkNest "VisitingHours$Tag" (13 : Nat) "VisitingHours$Scene" "marked" "Z" "VisitingHours"),
  (Jvm.Cond.fieldLinkNest "VisitingHours$Law" (57 : Nat) "VisitingHours$Scene" "marked" "Z" "VisitingHours"),
  (Jvm.Cond.fieldLinkNest "VisitingHours" (412 : Nat) "VisitingHours$Scene" "marked" "Z" "VisitingHours"),
  (Jvm.Cond.fieldLinkNest "VisitingHours$Tag" (16 : Nat) "VisitingHours$Scene" "expected" "Z" "VisitingHours"),
  (Jvm.Cond.fieldLinkNest "VisitingHours" (418 : Nat) "VisitingHours$Scene" "expected" "Z" "VisitingHours"),
  (Jvm.Cond.methodLinkNest "VisitingHours" (48 : Nat) ({ cls := "VisitingHours$Pairs", name := "<init>", desc := "(LVisitingHours;)V" } : Jvm.MethodName) "VisitingHours"),
  (Jvm.Cond.fieldLinkNest "VisitingHours" (543 : Nat) "VisitingHours$Pairs" "guestOf" "[I" "VisitingHours"),
  (Jvm.Cond.fieldLinkNest "VisitingHours" (555 : Nat) "VisitingHours$Pairs" "hostOf" "[I" "VisitingHours"),
  (Jvm.Cond.fieldLinkNest "VisitingHours$Pairs" (31 : Nat) "VisitingHours" "world" "LVisitingHours$World;" "VisitingHours"),
  (Jvm.Cond.methodLinkNest "VisitingHours$World" (93 : Nat) ({ cls := "VisitingHours", name := "has", desc := "(II)Z" } : Jvm.MethodName) "VisitingHours"),
  (Jvm.Cond.declares ({ cls := "VisitingHours$Cond", name := "holds", desc := "(LVisitingHours$Scene;)Z" } : Jvm.MethodName)),
  (Jvm.Cond.castable "VisitingHours$Less" "VisitingHours$Cond"),
  (Jvm.Cond.declares ({ cls := "java/lang/Enum", name := "ordinal", desc := "()I" } : Jvm.MethodName)),
  (Jvm.Cond.castable "VisitingHours$Not" "VisitingHours$Cond"),
  (Jvm.Cond.castable "VisitingHours$Row" "VisitingHours$Cond"),
  (Jvm.Cond.castable "VisitingHours$Tag" "VisitingHours$Cond"),
  (Jvm.Cond.methodLinkNest "VisitingHours$Pairs" (58 : Nat) ({ cls := "VisitingHours", name := "has", desc := "(II)Z" } : Jvm.MethodName) "VisitingHours"),
  (Jvm.Cond.methodLinkNest "VisitingHours$Reader" (41 : Nat) ({ cls := "VisitingHours", name := "in", desc := "(III)Z" } : Jvm.MethodName) "VisitingHours"),
  (Jvm.Cond.castable "[B" "java/lang/Cloneable"),
  (Jvm.Cond.castable "java/lang/IllegalArgumentException" "java/lang/IllegalArgumentException"),
  (Jvm.Cond.declares ({ cls := "java/lang/RuntimeException", name := "<init>", desc := "()V" } : Jvm.MethodName)),
  (Jvm.Cond.declares ({ cls := "java/lang/RuntimeException", name := "<init>", desc := "(Ljava/lang/String;)V" } : Jvm.MethodName)),
  (Jvm.Cond.declares ({ cls := "java/lang/Exception", name := "<init>", desc := "()V" } : Jvm.MethodName)),
  (Jvm.Cond.declares ({ cls := "java/lang/Exception", name := "<init>", desc := "(Ljava/lang/String;)V" } : Jvm.MethodName)),
  (Jvm.Cond.declares ({ cls := "java/lang/Throwable", name := "<init>", desc := "()V" } : Jvm.MethodName)),
  (Jvm.Cond.declares ({ cls := "java/lang/Throwable", name := "<init>", desc := "(Ljava/lang/String;)V" } : Jvm.MethodName)),
  (Jvm.Cond.castable "VisitingHours$Wrong" "VisitingHours$Wrong"),
  (Jvm.Cond.declares ({ cls := "jdk/internal/access/JavaLangAccess", name := "getUTF16Char", desc := "([BI)C" } : Jvm.MethodName)),
  (Jvm.Cond.castable "java/lang/System$2" "jdk/internal/access/JavaLangAccess"),
  (Jvm.Cond.methodLinkNest "VisitingHours" (195 : Nat) ({ cls := "VisitingHours$Reader", name := "byteAt", desc := "(I)I" } : Jvm.MethodName) "VisitingHours"),
  (Jvm.Cond.castable "java/lang/UnsupportedOperationException" "java/lang/UnsupportedOperationException"),
  (Jvm.Cond.methodLinkNest "VisitingHours" (374 : Nat) ({ cls := "VisitingHours$Law", name := "<init>", desc := "()V" } : Jvm.MethodName) "VisitingHours"),
  (Jvm.Cond.fieldLinkNest "VisitingHours" (375 : Nat) "VisitingHours$Law" "lines" "Ljava/util/ArrayList;" "VisitingHours"),
  (Jvm.Cond.castable "[LVisitingHours$Kind;" "java/lang/Cloneable"),
  (Jvm.Cond.fieldLinkNest "VisitingHours" (346 : Nat) "VisitingHours$Row" "row" "Ljava/util/ArrayList;" "VisitingHours"),
  (Jvm.Cond.methodLinkNest "VisitingHours" (296 : Nat) ({ cls := "VisitingHours$Sum", name := "<init>", desc := "()V" } : Jvm.MethodName) "VisitingHours"),
  (Jvm.Cond.fieldLinkNest "VisitingHours" (297 : Nat) "VisitingHours$Sum" "parts" "Ljava/util/ArrayList;" "VisitingHours"),
  (Jvm.Cond.castable "[LVisitingHours$Fact;" "java/lang/Cloneable"),
  (Jvm.Cond.fieldLinkNest "VisitingHours$Law" (32 : Nat) "VisitingHours$Line" "kind" "LVisitingHours$Kind;" "VisitingHours"),
  (Jvm.Cond.fieldLinkNest "VisitingHours$Law" (48 : Nat) "VisitingHours$Line" "n" "I" "VisitingHours"),
  (Jvm.Cond.castable "java/lang/ArrayIndexOutOfBoundsException" "java/lang/ArrayIndexOutOfBoundsException"),
  (Jvm.Cond.declares ({ cls := "java/lang/IndexOutOfBoundsException", name := "<init>", desc := "()V" } : Jvm.MethodName)),
  (Jvm.Cond.declares ({ cls := "java/lang/IndexOutOfBoundsException", name := "<init>", desc := "(Ljava/lang/String;)V" } : Jvm.MethodName)),
  (Jvm.Cond.castable "java/lang/IndexOutOfBoundsException" "java/lang/IndexOutOfBoundsException"),
  (Jvm.Cond.castable "java/util/NoSuchElementException" "java/util/NoSuchElementException"),
  (Jvm.Cond.castable "java/lang/IllegalStateException" "java/lang/IllegalStateException"),
  (Jvm.Cond.castable "java/lang/ArrayIndexOutOfBoundsException" "java/lang/IndexOutOfBoundsException"),
  (Jvm.Cond.castable "VisitingHours$Kind" "java/lang/Object"),
  (Jvm.Cond.castable "VisitingHours$Fact" "java/lang/Object"),
  (Jvm.Cond.castable "VisitingHours" "java/lang/Object"),
  (Jvm.Cond.castable "VisitingHours$World" "java/lang/Object"),
  (Jvm.Cond.castable "VisitingHours$Reader" "java/lang/Object"),
  (Jvm.Cond.castable "VisitingHours$Scene" "java/lang/Object"),
  (Jvm.Cond.castable "java/util/ArrayList" "java/lang/Object"),
  (Jvm.Cond.castable "VisitingHours$Pairs" "java/lang/Object"),
  (Jvm.Cond.castable "VisitingHoursModel" "java/lang/Object"),
  (Jvm.Cond.castable "java/lang/StringBuilder" "java/lang/Object"),
  (Jvm.Cond.castable "java/lang/String" "java/lang/Object"),
  (Jvm.Cond.castable "java/lang/IllegalArgumentException" "java/lang/Object"),
  (Jvm.Cond.castable "VisitingHours$Wrong" "java/lang/Object"),
  (Jvm.Cond.castable "java/lang/System$2" "java/lang/Object"),
  (Jvm.Cond.castable "java/lang/UnsupportedOperationException" "java/lang/Object"),
  (Jvm.Cond.castable "VisitingHours$Law" "java/lang/Object"),
  (Jvm.Cond.castable "VisitingHours$Line" "java/lang/Object"),
  (Jvm.Cond.castable "VisitingHours$Row" "java/lang/Object"),
  (Jvm.Cond.castable "VisitingHours$Not" "java/lang/Object"),
  (Jvm.Cond.castable "VisitingHours$Tag" "java/lang/Object"),
  (Jvm.Cond.castable "VisitingHours$Sum" "java/lang/Object"),
  (Jvm.Cond.castable "VisitingHours$Part" "java/lang/Object"),
  (Jvm.Cond.castable "VisitingHours$Less" "java/lang/Object"),
  (Jvm.Cond.castable "java/lang/ArrayIndexOutOfBoundsException" "java/lang/Object"),
  (Jvm.Cond.castable "java/lang/IndexOutOfBoundsException" "java/lang/Object"),
  (Jvm.Cond.castable "java/util/NoSuchElementException" "java/lang/Object"),
  (Jvm.Cond.castable "java/lang/IllegalStateException" "java/lang/Object"),
  (Jvm.Cond.castable "java/lang/Throwable" "java/lang/Object"),
  (Jvm.Cond.declares ({ cls := "java/lang/Object", name := "getClass", desc := "()Ljava/lang/Class;" } : Jvm.MethodName)),
  (Jvm.Cond.castable "[[I" "java/lang/Object"),
  (Jvm.Cond.castable "[I" "java/lang/Object"),
  (Jvm.Cond.castable "[B" "java/lang/Object"),
  (Jvm.Cond.castable "[LVisitingHours$Kind;" "java/lang/Object"),
  (Jvm.Cond.castable "[LVisitingHours$Fact;" "java/lang/Object"),
  (Jvm.Cond.castable "[Ljava/lang/Object;" "java/lang/Object"),
  (Jvm.Cond.castable "[Z" "java/lang/Object"),
  (Jvm.Cond.castable "[J" "java/lang/Object"),
  (Jvm.Cond.selects "java/lang/StringBuilder" ({ cls := "java/lang/AbstractStringBuilder", name := "ensureCapacityInternal", desc := "(I)V" } : Jvm.MethodName) ({ cls := "java/lang/AbstractStringBuilder", name := "ensureCapacityInternal", desc := "(I)V" } : Jvm.MethodName)),
  (Jvm.Cond.selects "java/lang/StringBuilder" ({ cls := "java/lang/AbstractStringBuilder", name := "newCapacity", desc := "(I)I" } : Jvm.MethodName) ({ cls := "java/lang/AbstractStringBuilder", name := "newCapacity", desc := "(I)I" } : Jvm.MethodName))]
theorem nw197 : (Jvm.Cond.methodLinkNest "VisitingHours" (9 : Nat) ({ cls := "VisitingHours$World", name := "<init>", desc := "()V" } : Jvm.MethodName) "VisitingHours") ∈ jnw := List.mem_of_getElem? (i := 0) rfl
theorem nw204 : (Jvm.Cond.fieldLinkNest "VisitingHours" (271 : Nat) "VisitingHours$World" "texts" "I" "VisitingHours") ∈ jnw := List.mem_of_getElem? (i := 1) rfl
theorem nw206 : (Jvm.Cond.fieldLinkNest "VisitingHours$Pairs" (65 : Nat) "VisitingHours$World" "hosts" "I" "VisitingHours") ∈ jnw := List.mem_of_getElem? (i := 2) rfl
theorem nw207 : (Jvm.Cond.fieldLinkNest "VisitingHours" (132 : Nat) "VisitingHours$World" "hosts" "I" "VisitingHours") ∈ jnw := List.mem_of_getElem? (i := 3) rfl
theorem nw209 : (Jvm.Cond.fieldLinkNest "VisitingHours$Pairs" (54 : Nat) "VisitingHours$World" "guests" "I" "VisitingHours") ∈ jnw := List.mem_of_getElem? (i := 4) rfl
theorem nw210 : (Jvm.Cond.fieldLinkNest "VisitingHours" (168 : Nat) "VisitingHours$World" "guests" "I" "VisitingHours") ∈ jnw := List.mem_of_getElem? (i := 5) rfl
theorem nw212 : (Jvm.Cond.fieldLinkNest "VisitingHours" (225 : Nat) "VisitingHours$World" "rain" "I" "VisitingHours") ∈ jnw := List.mem_of_getElem? (i := 6) rfl
theorem nw214 : (Jvm.Cond.fieldLinkNest "VisitingHours" (229 : Nat) "VisitingHours$World" "must" "I" "VisitingHours") ∈ jnw := List.mem_of_getElem? (i := 7) rfl
theorem nw216 : (Jvm.Cond.fieldLinkNest "VisitingHours" (231 : Nat) "VisitingHours$World" "not" "I" "VisitingHours") ∈ jnw := List.mem_of_getElem? (i := 8) rfl
theorem nw218 : (Jvm.Cond.fieldLinkNest "VisitingHours" (227 : Nat) "VisitingHours$World" "week" "I" "VisitingHours") ∈ jnw := List.mem_of_getElem? (i := 9) rfl
theorem nw220 : (Jvm.Cond.fieldLinkNest "VisitingHours" (678 : Nat) "VisitingHours$World" "logged" "I" "VisitingHours") ∈ jnw := List.mem_of_getElem? (i := 10) rfl
theorem nw222 : (Jvm.Cond.fieldLinkNest "VisitingHours" (672 : Nat) "VisitingHours$World" "seed" "I" "VisitingHours") ∈ jnw := List.mem_of_getElem? (i := 11) rfl
theorem nw224 : (Jvm.Cond.fieldLinkNest "VisitingHours" (135 : Nat) "VisitingHours$World" "patience" "[I" "VisitingHours") ∈ jnw := List.mem_of_getElem? (i := 12) rfl
theorem nw226 : (Jvm.Cond.fieldLinkNest "VisitingHours" (139 : Nat) "VisitingHours$World" "hours" "[I" "VisitingHours") ∈ jnw := List.mem_of_getElem? (i := 13) rfl
theorem nw228 : (Jvm.Cond.fieldLinkNest "VisitingHours" (145 : Nat) "VisitingHours$World" "glad" "[I" "VisitingHours") ∈ jnw := List.mem_of_getElem? (i := 14) rfl
theorem nw230 : (Jvm.Cond.fieldLinkNest "VisitingHours" (148 : Nat) "VisitingHours$World" "lonely" "[I" "VisitingHours") ∈ jnw := List.mem_of_getElem? (i := 15) rfl
theorem nw232 : (Jvm.Cond.fieldLinkNest "VisitingHours" (171 : Nat) "VisitingHours$World" "stay" "[I" "VisitingHours") ∈ jnw := List.mem_of_getElem? (i := 16) rfl
theorem nw234 : (Jvm.Cond.fieldLinkNest "VisitingHours" (175 : Nat) "VisitingHours$World" "times" "[I" "VisitingHours") ∈ jnw := List.mem_of_getElem? (i := 17) rfl
theorem nw236 : (Jvm.Cond.fieldLinkNest "VisitingHours" (178 : Nat) "VisitingHours$World" "marks" "[I" "VisitingHours") ∈ jnw := List.mem_of_getElem? (i := 18) rfl
theorem nw238 : (Jvm.Cond.fieldLinkNest "VisitingHours$Pairs" (41 : Nat) "VisitingHours$World" "likes" "[[I" "VisitingHours") ∈ jnw := List.mem_of_getElem? (i := 19) rfl
theorem nw239 : (Jvm.Cond.fieldLinkNest "VisitingHours" (155 : Nat) "VisitingHours$World" "likes" "[[I" "VisitingHours") ∈ jnw := List.mem_of_getElem? (i := 20) rfl
theorem nw241 : (Jvm.Cond.fieldLinkNest "VisitingHours$Pairs" (45 : Nat) "VisitingHours$World" "loves" "[[I" "VisitingHours") ∈ jnw := List.mem_of_getElem? (i := 21) rfl
theorem nw242 : (Jvm.Cond.fieldLinkNest "VisitingHours" (165 : Nat) "VisitingHours$World" "loves" "[[I" "VisitingHours") ∈ jnw := List.mem_of_getElem? (i := 22) rfl
theorem nw244 : (Jvm.Cond.fieldLinkNest "VisitingHours" (415 : Nat) "VisitingHours$World" "booked" "[[I" "VisitingHours") ∈ jnw := List.mem_of_getElem? (i := 23) rfl
theorem nw246 : (Jvm.Cond.fieldLinkNest "VisitingHours" (675 : Nat) "VisitingHours$World" "log" "[I" "VisitingHours") ∈ jnw := List.mem_of_getElem? (i := 24) rfl
theorem nw248 : (Jvm.Cond.fieldLinkNest "VisitingHours" (389 : Nat) "VisitingHours$World" "law" "LVisitingHours$Law;" "VisitingHours") ∈ jnw := List.mem_of_getElem? (i := 25) rfl
theorem nw250 : (Jvm.Cond.fieldLinkNest "VisitingHours" (663 : Nat) "VisitingHours$World" "settled" "I" "VisitingHours") ∈ jnw := List.mem_of_getElem? (i := 26) rfl
theorem nw299 : (Jvm.Cond.methodLinkNest "VisitingHours" (24 : Nat) ({ cls := "VisitingHours$Reader", name := "<init>", desc := "()V" } : Jvm.MethodName) "VisitingHours") ∈ jnw := List.mem_of_getElem? (i := 27) rfl
theorem nw304 : (Jvm.Cond.fieldLinkNest "VisitingHours" (561 : Nat) "VisitingHours$Reader" "tape" "[B" "VisitingHours") ∈ jnw := List.mem_of_getElem? (i := 28) rfl
theorem nw307 : (Jvm.Cond.fieldLinkNest "VisitingHours" (558 : Nat) "VisitingHours$Reader" "end" "I" "VisitingHours") ∈ jnw := List.mem_of_getElem? (i := 29) rfl
theorem nw309 : (Jvm.Cond.fieldLinkNest "VisitingHours" (192 : Nat) "VisitingHours$Reader" "at" "I" "VisitingHours") ∈ jnw := List.mem_of_getElem? (i := 30) rfl
theorem nw311 : (Jvm.Cond.fieldLinkNest "VisitingHours" (250 : Nat) "VisitingHours$Reader" "begin" "I" "VisitingHours") ∈ jnw := List.mem_of_getElem? (i := 31) rfl
theorem nw313 : (Jvm.Cond.fieldLinkNest "VisitingHours" (82 : Nat) "VisitingHours$Reader" "fault" "I" "VisitingHours") ∈ jnw := List.mem_of_getElem? (i := 32) rfl
theorem nw333 : (Jvm.Cond.methodLinkNest "VisitingHours" (31 : Nat) ({ cls := "VisitingHours$Scene", name := "<init>", desc := "()V" } : Jvm.MethodName) "VisitingHours") ∈ jnw := List.mem_of_getElem? (i := 33) rfl
theorem nw338 : (Jvm.Cond.fieldLinkNest "VisitingHours" (393 : Nat) "VisitingHours$Scene" "host" "I" "VisitingHours") ∈ jnw := List.mem_of_getElem? (i := 34) rfl
theorem nw340 : (Jvm.Cond.fieldLinkNest "VisitingHours" (395 : Nat) "VisitingHours$Scene" "guest" "I" "VisitingHours") ∈ jnw := List.mem_of_getElem? (i := 35) rfl
theorem nw342 : (Jvm.Cond.fieldLinkNest "VisitingHours" (397 : Nat) "VisitingHours$Scene" "quarter" "I" "VisitingHours") ∈ jnw := List.mem_of_getElem? (i := 36) rfl
theorem nw344 : (Jvm.Cond.fieldLinkNest "VisitingHours" (400 : Nat) "VisitingHours$Scene" "lonely" "I" "VisitingHours") ∈ jnw := List.mem_of_getElem? (i := 37) rfl
theorem nw345 : (Jvm.Cond.fieldLinkNest "VisitingHours$Law" (16 : Nat) "VisitingHours$Scene" "rank" "I" "VisitingHours") ∈ jnw := List.mem_of_getElem? (i := 38) rfl
theorem nw347 : (Jvm.Cond.fieldLinkNest "VisitingHours" (402 : Nat) "VisitingHours$Scene" "rank" "I" "VisitingHours") ∈ jnw := List.mem_of_getElem? (i := 39) rfl
theorem nw349 : (Jvm.Cond.fieldLinkNest "VisitingHours" (405 : Nat) "VisitingHours$Scene" "loved" "I" "VisitingHours") ∈ jnw := List.mem_of_getElem? (i := 40) rfl
theorem nw351 : (Jvm.Cond.fieldLinkNest "VisitingHours" (408 : Nat) "VisitingHours$Scene" "week" "I" "VisitingHours") ∈ jnw := List.mem_of_getElem? (i := 41) rfl
theorem nw352 : (Jvm.Cond.fieldLinkNest "VisitingHours$Tag" (13 : Nat) "VisitingHours$Scene" "marked" "Z" "VisitingHours") ∈ jnw := List.mem_of_getElem? (i := 42) rfl
theorem nw353 : (Jvm.Cond.fieldLinkNest "VisitingHours$Law" (57 : Nat) "VisitingHours$Scene" "marked" "Z" "VisitingHours") ∈ jnw := List.mem_of_getElem? (i := 43) rfl
theorem nw354 : (Jvm.Cond.fieldLinkNest "VisitingHours" (412 : Nat) "VisitingHours$Scene" "marked" "Z" "VisitingHours") ∈ jnw := List.mem_of_getElem? (i := 44) rfl
theorem nw355 : (Jvm.Cond.fieldLinkNest "VisitingHours$Tag" (16 : Nat) "VisitingHours$Scene" "expected" "Z" "VisitingHours") ∈ jnw := List.mem_of_getElem? (i := 45) rfl
theorem nw356 : (Jvm.Cond.fieldLinkNest "VisitingHours" (418 : Nat) "VisitingHours$Scene" "expected" "Z" "VisitingHours") ∈ jnw := List.mem_of_getElem? (i := 46) rfl
theorem nw404 : (Jvm.Cond.methodLinkNest "VisitingHours" (48 : Nat) ({ cls := "VisitingHours$Pairs", name := "<init>", desc := "(LVisitingHours;)V" } : Jvm.MethodName) "VisitingHours") ∈ jnw := List.mem_of_getElem? (i := 47) rfl
theorem nw409 : (Jvm.Cond.fieldLinkNest "VisitingHours" (543 : Nat) "VisitingHours$Pairs" "guestOf" "[I" "VisitingHours") ∈ jnw := List.mem_of_getElem? (i := 48) rfl
theorem nw411 : (Jvm.Cond.fieldLinkNest "VisitingHours" (555 : Nat) "VisitingHours$Pairs" "hostOf" "[I" "VisitingHours") ∈ jnw := List.mem_of_getElem? (i := 49) rfl
theorem nw433 : (Jvm.Cond.fieldLinkNest "VisitingHours$Pairs" (31 : Nat) "VisitingHours" "world" "LVisitingHours$World;" "VisitingHours") ∈ jnw := List.mem_of_getElem? (i := 50) rfl
theorem nw514 : (Jvm.Cond.methodLinkNest "VisitingHours$World" (93 : Nat) ({ cls := "VisitingHours", name := "has", desc := "(II)Z" } : Jvm.MethodName) "VisitingHours") ∈ jnw := List.mem_of_getElem? (i := 51) rfl
theorem nw565 : (Jvm.Cond.declares ({ cls := "VisitingHours$Cond", name := "holds", desc := "(LVisitingHours$Scene;)Z" } : Jvm.MethodName)) ∈ jnw := List.mem_of_getElem? (i := 52) rfl
theorem nw566 : (Jvm.Cond.castable "VisitingHours$Less" "VisitingHours$Cond") ∈ jnw := List.mem_of_getElem? (i := 53) rfl
theorem nw589 : (Jvm.Cond.declares ({ cls := "java/lang/Enum", name := "ordinal", desc := "()I" } : Jvm.MethodName)) ∈ jnw := List.mem_of_getElem? (i := 54) rfl
theorem nw593 : (Jvm.Cond.castable "VisitingHours$Not" "VisitingHours$Cond") ∈ jnw := List.mem_of_getElem? (i := 55) rfl
theorem nw601 : (Jvm.Cond.castable "VisitingHours$Row" "VisitingHours$Cond") ∈ jnw := List.mem_of_getElem? (i := 56) rfl
theorem nw612 : (Jvm.Cond.castable "VisitingHours$Tag" "VisitingHours$Cond") ∈ jnw := List.mem_of_getElem? (i := 57) rfl
theorem nw671 : (Jvm.Cond.methodLinkNest "VisitingHours$Pairs" (58 : Nat) ({ cls := "VisitingHours", name := "has", desc := "(II)Z" } : Jvm.MethodName) "VisitingHours") ∈ jnw := List.mem_of_getElem? (i := 58) rfl
theorem nw842 : (Jvm.Cond.methodLinkNest "VisitingHours$Reader" (41 : Nat) ({ cls := "VisitingHours", name := "in", desc := "(III)Z" } : Jvm.MethodName) "VisitingHours") ∈ jnw := List.mem_of_getElem? (i := 59) rfl
theorem nw908 : (Jvm.Cond.castable "[B" "java/lang/Cloneable") ∈ jnw := List.mem_of_getElem? (i := 60) rfl
theorem nw1003 : (Jvm.Cond.castable "java/lang/IllegalArgumentException" "java/lang/IllegalArgumentException") ∈ jnw := List.mem_of_getElem? (i := 61) rfl
theorem nw1004 : (Jvm.Cond.declares ({ cls := "java/lang/RuntimeException", name := "<init>", desc := "()V" } : Jvm.MethodName)) ∈ jnw := List.mem_of_getElem? (i := 62) rfl
theorem nw1005 : (Jvm.Cond.declares ({ cls := "java/lang/RuntimeException", name := "<init>", desc := "(Ljava/lang/String;)V" } : Jvm.MethodName)) ∈ jnw := List.mem_of_getElem? (i := 63) rfl
theorem nw1006 : (Jvm.Cond.declares ({ cls := "java/lang/Exception", name := "<init>", desc := "()V" } : Jvm.MethodName)) ∈ jnw := List.mem_of_getElem? (i := 64) rfl
theorem nw1007 : (Jvm.Cond.declares ({ cls := "java/lang/Exception", name := "<init>", desc := "(Ljava/lang/String;)V" } : Jvm.MethodName)) ∈ jnw := List.mem_of_getElem? (i := 65) rfl
theorem nw1008 : (Jvm.Cond.declares ({ cls := "java/lang/Throwable", name := "<init>", desc := "()V" } : Jvm.MethodName)) ∈ jnw := List.mem_of_getElem? (i := 66) rfl
theorem nw1009 : (Jvm.Cond.declares ({ cls := "java/lang/Throwable", name := "<init>", desc := "(Ljava/lang/String;)V" } : Jvm.MethodName)) ∈ jnw := List.mem_of_getElem? (i := 67) rfl
theorem nw1179 : (Jvm.Cond.castable "VisitingHours$Wrong" "VisitingHours$Wrong") ∈ jnw := List.mem_of_getElem? (i := 68) rfl
theorem nw1227 : (Jvm.Cond.declares ({ cls := "jdk/internal/access/JavaLangAccess", name := "getUTF16Char", desc := "([BI)C" } : Jvm.MethodName)) ∈ jnw := List.mem_of_getElem? (i := 69) rfl
theorem nw1228 : (Jvm.Cond.castable "java/lang/System$2" "jdk/internal/access/JavaLangAccess") ∈ jnw := List.mem_of_getElem? (i := 70) rfl
theorem nw1346 : (Jvm.Cond.methodLinkNest "VisitingHours" (195 : Nat) ({ cls := "VisitingHours$Reader", name := "byteAt", desc := "(I)I" } : Jvm.MethodName) "VisitingHours") ∈ jnw := List.mem_of_getElem? (i := 71) rfl
theorem nw1372 : (Jvm.Cond.castable "java/lang/UnsupportedOperationException" "java/lang/UnsupportedOperationException") ∈ jnw := List.mem_of_getElem? (i := 72) rfl
theorem nw1398 : (Jvm.Cond.methodLinkNest "VisitingHours" (374 : Nat) ({ cls := "VisitingHours$Law", name := "<init>", desc := "()V" } : Jvm.MethodName) "VisitingHours") ∈ jnw := List.mem_of_getElem? (i := 73) rfl
theorem nw1405 : (Jvm.Cond.fieldLinkNest "VisitingHours" (375 : Nat) "VisitingHours$Law" "lines" "Ljava/util/ArrayList;" "VisitingHours") ∈ jnw := List.mem_of_getElem? (i := 74) rfl
theorem nw1424 : (Jvm.Cond.castable "[LVisitingHours$Kind;" "java/lang/Cloneable") ∈ jnw := List.mem_of_getElem? (i := 75) rfl
theorem nw1446 : (Jvm.Cond.fieldLinkNest "VisitingHours" (346 : Nat) "VisitingHours$Row" "row" "Ljava/util/ArrayList;" "VisitingHours") ∈ jnw := List.mem_of_getElem? (i := 76) rfl
theorem nw1497 : (Jvm.Cond.methodLinkNest "VisitingHours" (296 : Nat) ({ cls := "VisitingHours$Sum", name := "<init>", desc := "()V" } : Jvm.MethodName) "VisitingHours") ∈ jnw := List.mem_of_getElem? (i := 77) rfl
theorem nw1504 : (Jvm.Cond.fieldLinkNest "VisitingHours" (297 : Nat) "VisitingHours$Sum" "parts" "Ljava/util/ArrayList;" "VisitingHours") ∈ jnw := List.mem_of_getElem? (i := 78) rfl
theorem nw1540 : (Jvm.Cond.castable "[LVisitingHours$Fact;" "java/lang/Cloneable") ∈ jnw := List.mem_of_getElem? (i := 79) rfl
theorem nw1623 : (Jvm.Cond.fieldLinkNest "VisitingHours$Law" (32 : Nat) "VisitingHours$Line" "kind" "LVisitingHours$Kind;" "VisitingHours") ∈ jnw := List.mem_of_getElem? (i := 80) rfl
theorem nw1625 : (Jvm.Cond.fieldLinkNest "VisitingHours$Law" (48 : Nat) "VisitingHours$Line" "n" "I" "VisitingHours") ∈ jnw := List.mem_of_getElem? (i := 81) rfl
theorem nw1652 : (Jvm.Cond.castable "java/lang/ArrayIndexOutOfBoundsException" "java/lang/ArrayIndexOutOfBoundsException") ∈ jnw := List.mem_of_getElem? (i := 82) rfl
theorem nw1653 : (Jvm.Cond.declares ({ cls := "java/lang/IndexOutOfBoundsException", name := "<init>", desc := "()V" } : Jvm.MethodName)) ∈ jnw := List.mem_of_getElem? (i := 83) rfl
theorem nw1654 : (Jvm.Cond.declares ({ cls := "java/lang/IndexOutOfBoundsException", name := "<init>", desc := "(Ljava/lang/String;)V" } : Jvm.MethodName)) ∈ jnw := List.mem_of_getElem? (i := 84) rfl
theorem nw1670 : (Jvm.Cond.castable "java/lang/IndexOutOfBoundsException" "java/lang/IndexOutOfBoundsException") ∈ jnw := List.mem_of_getElem? (i := 85) rfl
theorem nw1688 : (Jvm.Cond.castable "java/util/NoSuchElementException" "java/util/NoSuchElementException") ∈ jnw := List.mem_of_getElem? (i := 86) rfl
theorem nw1779 : (Jvm.Cond.castable "java/lang/IllegalStateException" "java/lang/IllegalStateException") ∈ jnw := List.mem_of_getElem? (i := 87) rfl
theorem nw2799 : (Jvm.Cond.castable "java/lang/ArrayIndexOutOfBoundsException" "java/lang/IndexOutOfBoundsException") ∈ jnw := List.mem_of_getElem? (i := 88) rfl
theorem nw2800 : (Jvm.Cond.castable "VisitingHours$Kind" "java/lang/Object") ∈ jnw := List.mem_of_getElem? (i := 89) rfl
theorem nw2801 : (Jvm.Cond.castable "VisitingHours$Fact" "java/lang/Object") ∈ jnw := List.mem_of_getElem? (i := 90) rfl
theorem nw2802 : (Jvm.Cond.castable "VisitingHours" "java/lang/Object") ∈ jnw := List.mem_of_getElem? (i := 91) rfl
theorem nw2803 : (Jvm.Cond.castable "VisitingHours$World" "java/lang/Object") ∈ jnw := List.mem_of_getElem? (i := 92) rfl
theorem nw2804 : (Jvm.Cond.castable "VisitingHours$Reader" "java/lang/Object") ∈ jnw := List.mem_of_getElem? (i := 93) rfl
theorem nw2805 : (Jvm.Cond.castable "VisitingHours$Scene" "java/lang/Object") ∈ jnw := List.mem_of_getElem? (i := 94) rfl
theorem nw2806 : (Jvm.Cond.castable "java/util/ArrayList" "java/lang/Object") ∈ jnw := List.mem_of_getElem? (i := 95) rfl
theorem nw2807 : (Jvm.Cond.castable "VisitingHours$Pairs" "java/lang/Object") ∈ jnw := List.mem_of_getElem? (i := 96) rfl
theorem nw2808 : (Jvm.Cond.castable "VisitingHoursModel" "java/lang/Object") ∈ jnw := List.mem_of_getElem? (i := 97) rfl
theorem nw2809 : (Jvm.Cond.castable "java/lang/StringBuilder" "java/lang/Object") ∈ jnw := List.mem_of_getElem? (i := 98) rfl
theorem nw2810 : (Jvm.Cond.castable "java/lang/String" "java/lang/Object") ∈ jnw := List.mem_of_getElem? (i := 99) rfl
theorem nw2811 : (Jvm.Cond.castable "java/lang/IllegalArgumentException" "java/lang/Object") ∈ jnw := List.mem_of_getElem? (i := 100) rfl
theorem nw2812 : (Jvm.Cond.castable "VisitingHours$Wrong" "java/lang/Object") ∈ jnw := List.mem_of_getElem? (i := 101) rfl
theorem nw2813 : (Jvm.Cond.castable "java/lang/System$2" "java/lang/Object") ∈ jnw := List.mem_of_getElem? (i := 102) rfl
theorem nw2814 : (Jvm.Cond.castable "java/lang/UnsupportedOperationException" "java/lang/Object") ∈ jnw := List.mem_of_getElem? (i := 103) rfl
theorem nw2815 : (Jvm.Cond.castable "VisitingHours$Law" "java/lang/Object") ∈ jnw := List.mem_of_getElem? (i := 104) rfl
theorem nw2816 : (Jvm.Cond.castable "VisitingHours$Line" "java/lang/Object") ∈ jnw := List.mem_of_getElem? (i := 105) rfl
theorem nw2817 : (Jvm.Cond.castable "VisitingHours$Row" "java/lang/Object") ∈ jnw := List.mem_of_getElem? (i := 106) rfl
theorem nw2818 : (Jvm.Cond.castable "VisitingHours$Not" "java/lang/Object") ∈ jnw := List.mem_of_getElem? (i := 107) rfl
theorem nw2819 : (Jvm.Cond.castable "VisitingHours$Tag" "java/lang/Object") ∈ jnw := List.mem_of_getElem? (i := 108) rfl
theorem nw2820 : (Jvm.Cond.castable "VisitingHours$Sum" "java/lang/Object") ∈ jnw := List.mem_of_getElem? (i := 109) rfl
theorem nw2821 : (Jvm.Cond.castable "VisitingHours$Part" "java/lang/Object") ∈ jnw := List.mem_of_getElem? (i := 110) rfl
theorem nw2822 : (Jvm.Cond.castable "VisitingHours$Less" "java/lang/Object") ∈ jnw := List.mem_of_getElem? (i := 111) rfl
theorem nw2823 : (Jvm.Cond.castable "java/lang/ArrayIndexOutOfBoundsException" "java/lang/Object") ∈ jnw := List.mem_of_getElem? (i := 112) rfl
theorem nw2824 : (Jvm.Cond.castable "java/lang/IndexOutOfBoundsException" "java/lang/Object") ∈ jnw := List.mem_of_getElem? (i := 113) rfl
theorem nw2825 : (Jvm.Cond.castable "java/util/NoSuchElementException" "java/lang/Object") ∈ jnw := List.mem_of_getElem? (i := 114) rfl
theorem nw2826 : (Jvm.Cond.castable "java/lang/IllegalStateException" "java/lang/Object") ∈ jnw := List.mem_of_getElem? (i := 115) rfl
theorem nw2827 : (Jvm.Cond.castable "java/lang/Throwable" "java/lang/Object") ∈ jnw := List.mem_of_getElem? (i := 116) rfl
theorem nw2830 : (Jvm.Cond.declares ({ cls := "java/lang/Object", name := "getClass", desc := "()Ljava/lang/Class;" } : Jvm.MethodName)) ∈ jnw := List.mem_of_getElem? (i := 117) rfl
theorem nw2831 : (Jvm.Cond.castable "[[I" "java/lang/Object") ∈ jnw := List.mem_of_getElem? (i := 118) rfl
theorem nw2832 : (Jvm.Cond.castable "[I" "java/lang/Object") ∈ jnw := List.mem_of_getElem? (i := 119) rfl
theorem nw2833 : (Jvm.Cond.castable "[B" "java/lang/Object") ∈ jnw := List.mem_of_getElem? (i := 120) rfl
theorem nw2834 : (Jvm.Cond.castable "[LVisitingHours$Kind;" "java/lang/Object") ∈ jnw := List.mem_of_getElem? (i := 121) rfl
theorem nw2835 : (Jvm.Cond.castable "[LVisitingHours$Fact;" "java/lang/Object") ∈ jnw := List.mem_of_getElem? (i := 122) rfl
theorem nw2836 : (Jvm.Cond.castable "[Ljava/lang/Object;" "java/lang/Object") ∈ jnw := List.mem_of_getElem? (i := 123) rfl
theorem nw2837 : (Jvm.Cond.castable "[Z" "java/lang/Object") ∈ jnw := List.mem_of_getElem? (i := 124) rfl
theorem nw2838 : (Jvm.Cond.castable "[J" "java/lang/Object") ∈ jnw := List.mem_of_getElem? (i := 125) rfl
theorem nws1 : (Jvm.Cond.selects "java/lang/StringBuilder" ({ cls := "java/lang/AbstractStringBuilder", name := "ensureCapacityInternal", desc := "(I)V" } : Jvm.MethodName) ({ cls := "java/lang/AbstractStringBuilder", name := "ensureCapacityInternal", desc := "(I)V" } : Jvm.MethodName)) ∈ jnw := List.mem_of_getElem? (i := 126) rfl
theorem nws2 : (Jvm.Cond.selects "java/lang/StringBuilder" ({ cls := "java/lang/AbstractStringBuilder", name := "newCapacity", desc := "(I)I" } : Jvm.MethodName) ({ cls := "java/lang/AbstractStringBuilder", name := "newCapacity", desc := "(I)I" } : Jvm.MethodName)) ∈ jnw := List.mem_of_getElem? (i := 127) rfl
/-- calls by the interface: the receiver's class, the method named, the method found -/
def jfw : List (String × MethodName × MethodName) := [(RX17, ⟨"VisitingHours$Cond", "holds", "(LVisitingHours$Scene;)Z"⟩, yX17_holds), (RX12, ⟨"VisitingHours$Cond", "holds", "(LVisitingHours$Scene;)Z"⟩, yX12_holds), (RX11, ⟨"VisitingHours$Cond", "holds", "(LVisitingHours$Scene;)Z"⟩, yX11_holds), (RX13, ⟨"VisitingHours$Cond", "holds", "(LVisitingHours$Scene;)Z"⟩, yX13_holds)]
/-- exceptions' classes that aren't castable to others -/
def jnc : List (String × String) := [("java/lang/IllegalArgumentException", "java/lang/IndexOutOfBoundsException"), ("java/util/NoSuchElementException", "java/lang/IndexOutOfBoundsException"), ("java/util/NoSuchElementException", "java/lang/IllegalArgumentException"), ("java/lang/IllegalStateException", "java/lang/IndexOutOfBoundsException"), ("java/lang/UnsupportedOperationException", "java/lang/IllegalArgumentException"), ("java/lang/UnsupportedOperationException", "VisitingHours$Wrong"), ("java/lang/IllegalArgumentException", "VisitingHours$Wrong")]
