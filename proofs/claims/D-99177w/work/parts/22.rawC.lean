def jyc (x : Int32) : Prop := narrow .char (.int x) = .int x ∧ True
theorem jnlk {x k : Int32} {z : Int} (hz : k.toInt = z) (h : ¬ x = k) : (x.toInt = z) = False := eq_false (jne hz h)
theorem J.getszQ {G : jG} {l : Launch} {M : jM} {d c n pc : Nat} {lv : List (Nat × Value)} {st : List Value} {g : List jC} {post : Option Value → List jC → Prop} {xp : String → List jC → Prop} {index : Nat} {q : String × String × String × Nat} (hd : decode M.2.1 pc = .ok (.getstatic index, 3)) (hq : q ∈ jzq) (hw : Cond.fieldLink M.1.cls index q.1 q.2.1 q.2.2.1 ∈ lw_all) (hv9 : q.2.2.2 < jn)
    (kk : ∀ o : Option Nat, o = none ∨ o = some q.2.2.2 → J G l M d c n (pc + 3) lv (va_rf o :: st) g post xp) : J G l M d c n pc lv st g post xp :=
  J.getsz hd hq hw hv9 (kk none (Or.inl rfl)) (kk _ (Or.inr rfl))

-- java/lang/String.coder()B
abbrev MJ5_coder : jM := (yJ5_coder, cJ5_coder, 1, some .byte, [])
def wJ5_coder (g : List jC) (h : Nat) (Q : Int32 → Prop) : Prop :=
  (((1 : Int32) = 0 → (jy (1 : Int32) ∧ Q (1 : Int32))) ∧ (¬ (1 : Int32) = 0 → (∃ fs7 : List Value, g[h]? = some (.inr (17, fs7)) ∧ ∃ v7 : Int32, fs7[1]? = some (.int v7) ∧ (jy v7 ∧ Q v7))))
theorem mJ5_coder {G : jG} {l : Launch} {d : Nat} (htr : l.stackTraces = false) (hdd : 0 ≤ d) {g : List jC} {h : Nat} {Q : Int32 → Prop} (hw : wJ5_coder g h Q) : JM G l MJ5_coder d 0 0 [.ref h] g (jRd g Q) jNo := by
  refine JM.intro (by decide) rfl htr (Nat.le_of_ble_eq_true rfl) ?_
  show J G l MJ5_coder d 0 0 0 [(0, .ref h)] [] g _ _
  unfold wJ5_coder at hw
  refine J.gets (q := ("java/lang/String", "COMPACT_STRINGS", "Z", .int (1 : Int32))) dJ5_coder_0 (List.mem_of_getElem? (i := 5) rfl) q1105 trivial ?_
  refine J.if_eq 13 dJ5_coder_3 (by decide) ⟨fun c3 => ?_, fun c3 => ?_⟩
  · obtain ⟨hw, -⟩ := hw
    specialize hw c3
    refine J.iconst (v := (1 : Int32)) dJ5_coder_13 (by decide) ?_
    exact J.zret rfl hw.1.1 dJ5_coder_14 ⟨rfl, _, rfl, hw.2⟩
  · obtain ⟨-, hw⟩ := hw
    specialize hw c3
    refine J.aload_n 0 dJ5_coder_6 rfl ?_
    obtain ⟨fs7, hk7, v7, hv7, hw⟩ := hw
    refine J.getfA (C := RJ5) (T0 := TJ5) (N := 4) 1 dJ5_coder_7 hk7 rfl in_J5 (by decide) q1161 hv7 ?_
    refine J.goto 14 dJ5_coder_10 (by decide) ?_
    exact J.zret rfl hw.1.1 dJ5_coder_14 ⟨rfl, _, rfl, hw.2⟩
theorem krJ5_335 {G : jG} {l : Launch} {M : jM} {d c n pc : Nat} {lv : List (Nat × Value)} {rest : List Value} {g : List jC} {post : Option Value → List jC → Prop} {xp : String → List jC → Prop} (hM : M.1.cls = RJ5) (htr : l.stackTraces = false) {h : Nat} {fs9 : List Value} (hk9 : g[h]? = some (.inr (17, fs9))) {Q : Int32 → Prop} (hd : decode M.2.1 pc = .ok (.invokevirtual 335, 3)) (hdd : 0 + 1 ≤ d) (hw8 : (rest.map fun v => v.category).sum ≤ 8) (hw : wJ5_coder g h Q) (kk : ∀ r, Q r → J G l M d c n (pc + 3) lv (.int r :: rest) g post xp) : J G l M d c n pc lv (.ref h :: rest) g post xp :=
  J.callV (As := []) (hcw := by rw [hM]; exact lw_V q1101 q1102 q1103 q156 q1104) (mJ5_coder htr (Nat.le_refl _) hw) hd rfl ⟨17, _, _, hk9, rfl, rfl, fun _ => rfl⟩ ⟨rfl, by decide, by decide, by show _ = some 0; decide +kernel⟩ hw8 ⟨hdd, by decide⟩ jcc0 (fun r9 g9 h9 => by obtain ⟨rfl, r, rfl, h⟩ := h9; exact kk r h) jNo.x
-- java/lang/String.length()I
abbrev MJ5_length : jM := (yJ5_length, cJ5_length, 1, some .int, [])
def wJ5_length (g : List jC) (h : Nat) (Q : Int32 → Prop) : Prop :=
  (∃ fs1 : List Value, g[h]? = some (.inr (17, fs1)) ∧ ∃ v1 : Option Nat, fs1[0]? = some (va_rf v1) ∧ (∃ b4_1, v1 = some b4_1 ∧ (∃ v4 : Int32, jAl g b4_1 v4 ∧ (∃ fs6 : List Value, g[h]? = some (.inr (17, fs6)) ∧ wJ5_coder g h (fun r6 => Q (v4 >>> (r6 &&& 31)))))))
theorem mJ5_length {G : jG} {l : Launch} {d : Nat} (htr : l.stackTraces = false) (hdd : 1 ≤ d) {g : List jC} {h : Nat} {Q : Int32 → Prop} (hw : wJ5_length g h Q) : JM G l MJ5_length d 0 0 [.ref h] g (jRd g Q) jNo := by
  refine JM.intro (by decide) rfl htr (Nat.le_of_ble_eq_true rfl) ?_
  show J G l MJ5_length d 0 0 0 [(0, .ref h)] [] g _ _
  unfold wJ5_length at hw
  refine J.aload_n 0 dJ5_length_0 rfl ?_
  obtain ⟨fs1, hk1, v1, hv1, hw⟩ := hw
  refine J.getfA (C := RJ5) (T0 := TJ5) (N := 4) 0 dJ5_length_1 hk1 rfl in_J5 (by decide) q1160 hv1 ?_
  obtain ⟨b4_1, rfl, hw⟩ := hw
  obtain ⟨v4, hk4, hw⟩ := hw
  refine J.alenA dJ5_length_4 hk4 ?_
  refine J.aload_n 0 dJ5_length_5 rfl ?_
  obtain ⟨fs6, hk6, hw⟩ := hw
  refine krJ5_335 rfl htr hk6 dJ5_length_6 (by omega) (Nat.le_of_ble_eq_true rfl) hw (fun r6 hw => ?_)
  refine J.ishr dJ5_length_9 ?_
  exact J.iret rfl dJ5_length_10 ⟨rfl, _, rfl, hw⟩
-- java/lang/String.isLatin1()Z
abbrev MJ5_isLatin1 : jM := (yJ5_isLatin1, cJ5_isLatin1, 1, some .boolean, [])
def wJ5_isLatin1 (g : List jC) (h : Nat) (Q : Int32 → Prop) : Prop :=
  (((1 : Int32) = 0 → Q (0 : Int32)) ∧ (¬ (1 : Int32) = 0 → (∃ fs7 : List Value, g[h]? = some (.inr (17, fs7)) ∧ ∃ v7 : Int32, fs7[1]? = some (.int v7) ∧ ((¬ v7 = 0 → Q (0 : Int32)) ∧ (v7 = 0 → Q (1 : Int32))))))
theorem mJ5_isLatin1 {G : jG} {l : Launch} {d : Nat} (htr : l.stackTraces = false) (hdd : 0 ≤ d) {g : List jC} {h : Nat} {Q : Int32 → Prop} (hw : wJ5_isLatin1 g h Q) : JM G l MJ5_isLatin1 d 0 0 [.ref h] g (jRd g Q) jNo := by
  refine JM.intro (by decide) rfl htr (Nat.le_of_ble_eq_true rfl) ?_
  show J G l MJ5_isLatin1 d 0 0 0 [(0, .ref h)] [] g _ _
  unfold wJ5_isLatin1 at hw
  refine J.gets (q := ("java/lang/String", "COMPACT_STRINGS", "Z", .int (1 : Int32))) dJ5_isLatin1_0 (List.mem_of_getElem? (i := 5) rfl) q1105 trivial ?_
  refine J.if_eq 17 dJ5_isLatin1_3 (by decide) ⟨fun c3 => ?_, fun c3 => ?_⟩
  · obtain ⟨hw, -⟩ := hw
    specialize hw c3
    refine J.iconst (v := (0 : Int32)) dJ5_isLatin1_17 (by decide) ?_
    exact J.zret rfl rfl dJ5_isLatin1_18 ⟨rfl, _, rfl, hw⟩
  · obtain ⟨-, hw⟩ := hw
    specialize hw c3
    refine J.aload_n 0 dJ5_isLatin1_6 rfl ?_
    obtain ⟨fs7, hk7, v7, hv7, hw⟩ := hw
    refine J.getfA (C := RJ5) (T0 := TJ5) (N := 4) 1 dJ5_isLatin1_7 hk7 rfl in_J5 (by decide) q1161 hv7 ?_
    refine J.if_ne 17 dJ5_isLatin1_10 (by decide) ⟨fun c10 => ?_, fun c10 => ?_⟩
    · obtain ⟨hw, -⟩ := hw
      specialize hw c10
      refine J.iconst (v := (0 : Int32)) dJ5_isLatin1_17 (by decide) ?_
      exact J.zret rfl rfl dJ5_isLatin1_18 ⟨rfl, _, rfl, hw⟩
    · obtain ⟨-, hw⟩ := hw
      specialize hw c10
      refine J.iconst (v := (1 : Int32)) dJ5_isLatin1_13 (by decide) ?_
      refine J.goto 18 dJ5_isLatin1_14 (by decide) ?_
      exact J.zret rfl rfl dJ5_isLatin1_18 ⟨rfl, _, rfl, hw⟩
theorem krJ5_1059 {G : jG} {l : Launch} {M : jM} {d c n pc : Nat} {lv : List (Nat × Value)} {rest : List Value} {g : List jC} {post : Option Value → List jC → Prop} {xp : String → List jC → Prop} (hM : M.1.cls = RJ5) (htr : l.stackTraces = false) {a1 : Int32} {a2 : Int32} {a3 : Option Nat} {Q : Int32 → Prop} (hd : decode M.2.1 pc = .ok (.invokestatic 1059, 3)) (hdd : 0 + 1 ≤ d) (hw8 : (rest.map fun v => v.category).sum ≤ 8) (hw : wJ11_checkIndex g a1 a2 a3 Q) (kk : ∀ r, Q r → J G l M d c n (pc + 3) lv (.int r :: rest) g post xp) : J G l M d c n pc lv (va_rf a3 :: .int a2 :: .int a1 :: rest) g post xp :=
  J.callS (As := [.int a1, .int a2, va_rf a3]) (hcw := by rw [hM]; exact lw_S q964 q549 q162 q550) (mJ11_checkIndex htr (Nat.le_refl _) hw) hd rfl ⟨by decide, by decide, by show _ = some 3; decide +kernel⟩ hw8 ⟨hdd, by decide⟩ jcc0 (fun r9 g9 h9 => by obtain ⟨rfl, r, rfl, h⟩ := h9; exact kk r h) jNo.x
-- java/lang/String.checkIndex(II)V
abbrev MJ5_checkIndex : jM := (yJ5_checkIndex, cJ5_checkIndex, 2, none, [])
def wJ5_checkIndex (g : List jC) (a1 : Int32) (a2 : Int32) (Q : Prop) : Prop :=
  (∀ o2 : Option Nat, o2 = none ∨ o2 = some 67 → wJ11_checkIndex g a1 a2 o2 (fun r5 => Q))
theorem mJ5_checkIndex {G : jG} {l : Launch} {d : Nat} (htr : l.stackTraces = false) (hdd : 1 ≤ d) {g : List jC} {a1 : Int32} {a2 : Int32} {Q : Prop} (hw : wJ5_checkIndex g a1 a2 Q) : JM G l MJ5_checkIndex d 0 0 [.int a1, .int a2] g (jRv g Q) jNo := by
  refine JM.intro (by decide) rfl htr (Nat.le_of_ble_eq_true rfl) ?_
  show J G l MJ5_checkIndex d 0 0 0 [(0, .int a1), (1, .int a2)] [] g _ _
  unfold wJ5_checkIndex at hw
  refine J.iload_n 0 dJ5_checkIndex_0 rfl ?_
  refine J.iload_n 1 dJ5_checkIndex_1 rfl ?_
  refine J.getszQ (q := ("jdk/internal/util/Preconditions", "SIOOBE_FORMATTER", "Ljava/util/function/BiFunction;", 67)) dJ5_checkIndex_2 (List.mem_of_getElem? (i := 2) rfl) q941 (by decide) (fun o2 h2 => ?_)
  specialize hw o2 h2
  refine krJ5_1059 rfl htr dJ5_checkIndex_5 (by omega) (Nat.le_of_ble_eq_true rfl) hw (fun r5 hw => ?_)
  refine J.pop dJ5_checkIndex_8 rfl ?_
  exact J.vret rfl dJ5_checkIndex_9 ⟨rfl, rfl, hw⟩
theorem krJ10_9 {G : jG} {l : Launch} {M : jM} {d c n pc : Nat} {lv : List (Nat × Value)} {rest : List Value} {g : List jC} {post : Option Value → List jC → Prop} {xp : String → List jC → Prop} (hM : M.1.cls = RJ10) (htr : l.stackTraces = false) {a1 : Int32} {a2 : Int32} {Q : Prop} (hd : decode M.2.1 pc = .ok (.invokestatic 9, 3)) (hdd : 1 + 1 ≤ d) (hw8 : (rest.map fun v => v.category).sum ≤ 8) (hw : wJ5_checkIndex g a1 a2 Q) (kk : Q → J G l M d c n (pc + 3) lv rest g post xp) : J G l M d c n pc lv (.int a2 :: .int a1 :: rest) g post xp :=
  J.callS (As := [.int a1, .int a2]) (hcw := by rw [hM]; exact lw_S q1336 q962 q156 q963) (mJ5_checkIndex htr (Nat.le_refl _) hw) hd rfl ⟨by decide, by decide, by show _ = some 2; decide +kernel⟩ hw8 ⟨hdd, by decide⟩ jcc0 (fun r9 g9 h9 => by obtain ⟨rfl, rfl, h⟩ := h9; exact kk h) jNo.x
-- java/lang/StringLatin1.charAt([BI)C
abbrev MJ10_charAt : jM := (yJ10_charAt, cJ10_charAt, 2, some .char, [])
def wJ10_charAt (g : List jC) (a1 : Nat) (a2 : Int32) (Q : Int32 → Prop) : Prop :=
  (∃ v2 : Int32, jAl g a1 v2 ∧ wJ5_checkIndex g a2 v2 ((∃ (N8 : Nat) (f8 : Nat → Int32), g[a1]? = some (.inl (1, N8, .inl f8)) ∧ vp_in a2 N8 ∧ (jyc ((((f8 a2.toNatClampNeg) &&& (255 : Int32)).toUInt32 % 65536).toInt32) ∧ Q ((((f8 a2.toNatClampNeg) &&& (255 : Int32)).toUInt32 % 65536).toInt32)))))
theorem mJ10_charAt {G : jG} {l : Launch} {d : Nat} (htr : l.stackTraces = false) (hdd : 2 ≤ d) {g : List jC} {a1 : Nat} {a2 : Int32} {Q : Int32 → Prop} (hw : wJ10_charAt g a1 a2 Q) : JM G l MJ10_charAt d 0 0 [.ref a1, .int a2] g (jRd g Q) jNo := by
  refine JM.intro (by decide) rfl htr (Nat.le_of_ble_eq_true rfl) ?_
  show J G l MJ10_charAt d 0 0 0 [(0, .ref a1), (1, .int a2)] [] g _ _
  unfold wJ10_charAt at hw
  refine J.iload_n 1 dJ10_charAt_0 rfl ?_
  refine J.aload_n 0 dJ10_charAt_1 rfl ?_
  obtain ⟨v2, hk2, hw⟩ := hw
  refine J.alenA dJ10_charAt_2 hk2 ?_
  refine krJ10_9 rfl htr dJ10_charAt_3 (by omega) (Nat.le_of_ble_eq_true rfl) hw (fun hw => ?_)
  refine J.aload_n 0 dJ10_charAt_6 rfl ?_
  refine J.iload_n 1 dJ10_charAt_7 rfl ?_
  obtain ⟨N8, f8, hk8, hi8, hw⟩ := hw
  refine J.bald dJ10_charAt_8 hk8 hi8 ?_
  refine J.sipush (v := (255 : Int32)) dJ10_charAt_9 (by decide) ?_
  refine J.iand dJ10_charAt_12 ?_
  refine J.i2c dJ10_charAt_13 ?_
  exact J.zret rfl hw.1.1 dJ10_charAt_14 ⟨rfl, _, rfl, hw.2⟩
theorem krJ5_492 {G : jG} {l : Launch} {M : jM} {d c n pc : Nat} {lv : List (Nat × Value)} {rest : List Value} {g : List jC} {post : Option Value → List jC → Prop} {xp : String → List jC → Prop} (hM : M.1.cls = RJ5) (htr : l.stackTraces = false) {h : Nat} {fs9 : List Value} (hk9 : g[h]? = some (.inr (17, fs9))) {Q : Int32 → Prop} (hd : decode M.2.1 pc = .ok (.invokevirtual 492, 3)) (hdd : 0 + 1 ≤ d) (hw8 : (rest.map fun v => v.category).sum ≤ 8) (hw : wJ5_isLatin1 g h Q) (kk : ∀ r, Q r → J G l M d c n (pc + 3) lv (.int r :: rest) g post xp) : J G l M d c n pc lv (.ref h :: rest) g post xp :=
  J.callV (As := []) (hcw := by rw [hM]; exact lw_V q1205 q1206 q1207 q156 q1208) (mJ5_isLatin1 htr (Nat.le_refl _) hw) hd rfl ⟨17, _, _, hk9, rfl, rfl, fun _ => rfl⟩ ⟨rfl, by decide, by decide, by show _ = some 0; decide +kernel⟩ hw8 ⟨hdd, by decide⟩ jcc0 (fun r9 g9 h9 => by obtain ⟨rfl, r, rfl, h⟩ := h9; exact kk r h) jNo.x
theorem krJ5_495 {G : jG} {l : Launch} {M : jM} {d c n pc : Nat} {lv : List (Nat × Value)} {rest : List Value} {g : List jC} {post : Option Value → List jC → Prop} {xp : String → List jC → Prop} (hM : M.1.cls = RJ5) (htr : l.stackTraces = false) {a1 : Nat} {a2 : Int32} {Q : Int32 → Prop} (hd : decode M.2.1 pc = .ok (.invokestatic 495, 3)) (hdd : 2 + 1 ≤ d) (hw8 : (rest.map fun v => v.category).sum ≤ 8) (hw : wJ10_charAt g a1 a2 Q) (kk : ∀ r, Q r → J G l M d c n (pc + 3) lv (.int r :: rest) g post xp) : J G l M d c n pc lv (.int a2 :: .ref a1 :: rest) g post xp :=
  J.callS (As := [.ref a1, .int a2]) (hcw := by rw [hM]; exact lw_S q1333 q1334 q161 q1335) (mJ10_charAt htr (Nat.le_refl _) hw) hd rfl ⟨by decide, by decide, by show _ = some 2; decide +kernel⟩ hw8 ⟨hdd, by decide⟩ jcc0 (fun r9 g9 h9 => by obtain ⟨rfl, r, rfl, h⟩ := h9; exact kk r h) jNo.x
-- java/lang/String.charAt(I)C
abbrev MJ5_charAt : jM := (yJ5_charAt, cJ5_charAt, 2, some .char, [])
def wJ5_charAt (g : List jC) (h : Nat) (a1 : Int32) (Q : Int32 → Prop) : Prop :=
  (∃ fs1 : List Value, g[h]? = some (.inr (17, fs1)) ∧ wJ5_isLatin1 g h (fun r1 => ((r1 = 0 → (∃ fs17 : List Value, g[h]? = some (.inr (17, fs17)) ∧ ∃ v17 : Option Nat, fs17[0]? = some (va_rf v17) ∧ False)) ∧ (¬ r1 = 0 → (∃ fs8 : List Value, g[h]? = some (.inr (17, fs8)) ∧ ∃ v8 : Option Nat, fs8[0]? = some (va_rf v8) ∧ (∃ b12_1, v8 = some b12_1 ∧ wJ10_charAt g b12_1 a1 (fun r12 => (jyc r12 ∧ Q r12))))))))
theorem mJ5_charAt {G : jG} {l : Launch} {d : Nat} (htr : l.stackTraces = false) (hdd : 3 ≤ d) {g : List jC} {h : Nat} {a1 : Int32} {Q : Int32 → Prop} (hw : wJ5_charAt g h a1 Q) : JM G l MJ5_charAt d 0 0 [.ref h, .int a1] g (jRd g Q) jNo := by
  refine JM.intro (by decide) rfl htr (Nat.le_of_ble_eq_true rfl) ?_
  show J G l MJ5_charAt d 0 0 0 [(0, .ref h), (1, .int a1)] [] g _ _
  unfold wJ5_charAt at hw
  refine J.aload_n 0 dJ5_charAt_0 rfl ?_
  obtain ⟨fs1, hk1, hw⟩ := hw
  refine krJ5_492 rfl htr hk1 dJ5_charAt_1 (by omega) (Nat.le_of_ble_eq_true rfl) hw (fun r1 hw => ?_)
  refine J.if_eq 16 dJ5_charAt_4 (by decide) ⟨fun c4 => ?_, fun c4 => ?_⟩
  · obtain ⟨hw, -⟩ := hw
    specialize hw c4
    refine J.aload_n 0 dJ5_charAt_16 rfl ?_
    obtain ⟨fs17, hk17, v17, hv17, hw⟩ := hw
    refine J.getfA (C := RJ5) (T0 := TJ5) (N := 4) 0 dJ5_charAt_17 hk17 rfl in_J5 (by decide) q1160 hv17 ?_
    refine J.iload_n 1 dJ5_charAt_20 rfl ?_
    exact hw.elim
  · obtain ⟨-, hw⟩ := hw
    specialize hw c4
    refine J.aload_n 0 dJ5_charAt_7 rfl ?_
    obtain ⟨fs8, hk8, v8, hv8, hw⟩ := hw
    refine J.getfA (C := RJ5) (T0 := TJ5) (N := 4) 0 dJ5_charAt_8 hk8 rfl in_J5 (by decide) q1160 hv8 ?_
    refine J.iload_n 1 dJ5_charAt_11 rfl ?_
    obtain ⟨b12_1, rfl, hw⟩ := hw
    refine krJ5_495 rfl htr dJ5_charAt_12 (by omega) (Nat.le_of_ble_eq_true rfl) hw (fun r12 hw => ?_)
    exact J.zret rfl hw.1.1 dJ5_charAt_15 ⟨rfl, _, rfl, hw.2⟩
-- java/lang/StringLatin1.equals([B[B)Z
abbrev MJ10_equals : jM := (yJ10_equals, cJ10_equals, 3, some .boolean, [])
def wJ10_equals_9 (g : List jC) (a1 : Nat) (a2 : Nat) (Q : Int32 → Prop) : Nat → Int32 → Prop
  | 0, _ => False
  | f + 1, x2 =>
    (∃ v11 : Int32, jAl g a1 v11 ∧ ((v11 ≤ x2 → Q (1 : Int32)) ∧ (¬ v11 ≤ x2 → (∃ (N17 : Nat) (f17 : Nat → Int32), g[a1]? = some (.inl (1, N17, .inl f17)) ∧ vp_in x2 N17 ∧ (∃ (N20 : Nat) (f20 : Nat → Int32), g[a2]? = some (.inl (1, N20, .inl f20)) ∧ vp_in x2 N20 ∧ (((f17 x2.toNatClampNeg) = (f20 x2.toNatClampNeg) → (∀ y26 : Int32, y26 = x2 + (1 : Int32) → wJ10_equals_9 g a1 a2 Q f y26)) ∧ (¬ (f17 x2.toNatClampNeg) = (f20 x2.toNatClampNeg) → Q (0 : Int32))))))))
theorem rJ10_equals_9 {G : jG} {l : Launch} {d : Nat} {c n : Nat} (htr : l.stackTraces = false) (hdd : 0 ≤ d) {g : List jC} {a1 : Nat} {a2 : Nat} {Q : Int32 → Prop} : ∀ (f : Nat) (x2 : Int32), wJ10_equals_9 g a1 a2 Q f x2 → J G l MJ10_equals d c n 9 [(0, .ref a1), (1, .ref a2), (2, .int x2)] [] g (jRd g Q) jNo := by
  intro f
  induction f with
  | zero =>
    intro x2 hw
    rw [wJ10_equals_9] at hw
    exact hw.elim
  | succ f ih =>
    intro x2 hw
    rw [wJ10_equals_9] at hw
    refine J.iload_n 2 dJ10_equals_9 rfl ?_
    refine J.aload_n 0 dJ10_equals_10 rfl ?_
    obtain ⟨v11, hk11, hw⟩ := hw
    refine J.alenA dJ10_equals_11 hk11 ?_
    refine J.icmp_ge 32 dJ10_equals_12 (by decide) ⟨fun c12 => ?_, fun c12 => ?_⟩
    · obtain ⟨hw, -⟩ := hw
      specialize hw c12
      refine J.iconst (v := (1 : Int32)) dJ10_equals_32 (by decide) ?_
      exact J.zret rfl rfl dJ10_equals_33 ⟨rfl, _, rfl, hw⟩
    · obtain ⟨-, hw⟩ := hw
      specialize hw c12
      refine J.aload_n 0 dJ10_equals_15 rfl ?_
      refine J.iload_n 2 dJ10_equals_16 rfl ?_
      obtain ⟨N17, f17, hk17, hi17, hw⟩ := hw
      refine J.bald dJ10_equals_17 hk17 hi17 ?_
      refine J.aload_n 1 dJ10_equals_18 rfl ?_
      refine J.iload_n 2 dJ10_equals_19 rfl ?_
      obtain ⟨N20, f20, hk20, hi20, hw⟩ := hw
      refine J.bald dJ10_equals_20 hk20 hi20 ?_
      refine J.icmp_eq 26 dJ10_equals_21 (by decide) ⟨fun c21 => ?_, fun c21 => ?_⟩
      · obtain ⟨hw, -⟩ := hw
        specialize hw c21
        refine J.iincN 2 (K := (1 : Int32)) (lv' := fun y26 => [(2, .int y26), (0, .ref a1), (1, .ref a2)]) dJ10_equals_26 rfl (by decide) (by decide) (fun _ => rfl) hw (fun y26 hw => ?_)
        refine J.goto 9 dJ10_equals_29 (by decide) ?_
        exact J.pick [1, 2, 0] rfl (ih _ hw)
      · obtain ⟨-, hw⟩ := hw
        specialize hw c21
        refine J.iconst (v := (0 : Int32)) dJ10_equals_24 (by decide) ?_
        exact J.zret rfl rfl dJ10_equals_25 ⟨rfl, _, rfl, hw⟩
def wJ10_equals (g : List jC) (a1 : Nat) (a2 : Nat) (Q : Int32 → Prop) : Prop :=
  (∃ v1 : Int32, jAl g a1 v1 ∧ (∃ v3 : Int32, jAl g a2 v3 ∧ ((¬ v1 = v3 → Q (0 : Int32)) ∧ (v1 = v3 → (∃ f9, wJ10_equals_9 g a1 a2 Q f9 (0 : Int32))))))
theorem mJ10_equals {G : jG} {l : Launch} {d : Nat} (htr : l.stackTraces = false) (hdd : 0 ≤ d) {g : List jC} {a1 : Nat} {a2 : Nat} {Q : Int32 → Prop} (hw : wJ10_equals g a1 a2 Q) : JM G l MJ10_equals d 0 0 [.ref a1, .ref a2] g (jRd g Q) jNo := by
  refine JM.intro (by decide) rfl htr (Nat.le_of_ble_eq_true rfl) ?_
  show J G l MJ10_equals d 0 0 0 [(0, .ref a1), (1, .ref a2)] [] g _ _
  unfold wJ10_equals at hw
  refine J.aload_n 0 dJ10_equals_0 rfl ?_
  obtain ⟨v1, hk1, hw⟩ := hw
  refine J.alenA dJ10_equals_1 hk1 ?_
  refine J.aload_n 1 dJ10_equals_2 rfl ?_
  obtain ⟨v3, hk3, hw⟩ := hw
  refine J.alenA dJ10_equals_3 hk3 ?_
  refine J.icmp_ne 34 dJ10_equals_4 (by decide) ⟨fun c4 => ?_, fun c4 => ?_⟩
  · obtain ⟨hw, -⟩ := hw
    specialize hw c4
    refine J.iconst (v := (0 : Int32)) dJ10_equals_34 (by decide) ?_
    exact J.zret rfl rfl dJ10_equals_35 ⟨rfl, _, rfl, hw⟩
  · obtain ⟨-, hw⟩ := hw
    specialize hw c4
    refine J.iconst (v := (0 : Int32)) dJ10_equals_7 (by decide) ?_
    refine J.istore_n (lv' := [(2, .int (0 : Int32)), (0, .ref a1), (1, .ref a2)]) dJ10_equals_8 (by decide) rfl ?_
    obtain ⟨f9, hw⟩ := hw
    exact J.pick [1, 2, 0] rfl (rJ10_equals_9 htr hdd f9 _ hw)
theorem krJ5_541 {G : jG} {l : Launch} {M : jM} {d c n pc : Nat} {lv : List (Nat × Value)} {rest : List Value} {g : List jC} {post : Option Value → List jC → Prop} {xp : String → List jC → Prop} (hM : M.1.cls = RJ5) (htr : l.stackTraces = false) {a1 : Nat} {a2 : Nat} {Q : Int32 → Prop} (hd : decode M.2.1 pc = .ok (.invokestatic 541, 3)) (hdd : 0 + 1 ≤ d) (hw8 : (rest.map fun v => v.category).sum ≤ 8) (hw : wJ10_equals g a1 a2 Q) (kk : ∀ r, Q r → J G l M d c n (pc + 3) lv (.int r :: rest) g post xp) : J G l M d c n pc lv (.ref a2 :: .ref a1 :: rest) g post xp :=
  J.callS (As := [.ref a1, .ref a2]) (hcw := by rw [hM]; exact lw_S q1268 q1269 q161 q1270) (mJ10_equals htr (Nat.le_refl _) hw) hd rfl ⟨by decide, by decide, by show _ = some 2; decide +kernel⟩ hw8 ⟨hdd, by decide⟩ jcc0 (fun r9 g9 h9 => by obtain ⟨rfl, r, rfl, h⟩ := h9; exact kk r h) jNo.x
-- java/lang/String.equals(Ljava/lang/Object;)Z
abbrev MJ5_equals : jM := (yJ5_equals, cJ5_equals, 3, some .boolean, [])
def wJ5_equals_36 (g : List jC) (h : Nat) (a1 : Nat) (Q : Int32 → Prop) (x2 : Option Nat) : Prop :=
  (∃ fs37 : List Value, g[h]? = some (.inr (17, fs37)) ∧ ∃ v37 : Option Nat, fs37[0]? = some (va_rf v37) ∧ (∃ b41_1, x2 = some b41_1 ∧ (∃ fs41 : List Value, g[b41_1]? = some (.inr (17, fs41)) ∧ ∃ v41 : Option Nat, fs41[0]? = some (va_rf v41) ∧ (∃ b44_2, v37 = some b44_2 ∧ (∃ b44_3, v41 = some b44_3 ∧ wJ10_equals g b44_2 b44_3 (fun r44 => ((r44 = 0 → Q (0 : Int32)) ∧ (¬ r44 = 0 → Q (1 : Int32)))))))))
theorem rJ5_equals_36 {G : jG} {l : Launch} {d : Nat} {c n : Nat} (htr : l.stackTraces = false) (hdd : 1 ≤ d) {g : List jC} {h : Nat} {a1 : Nat} {Q : Int32 → Prop} {x2 : Option Nat} (hw : wJ5_equals_36 g h a1 Q x2) : J G l MJ5_equals d c n 36 [(0, .ref h), (2, va_rf x2)] [] g (jRd g Q) jNo := by
  unfold wJ5_equals_36 at hw
  refine J.aload_n 0 dJ5_equals_36 rfl ?_
  obtain ⟨fs37, hk37, v37, hv37, hw⟩ := hw
  refine J.getfA (C := RJ5) (T0 := TJ5) (N := 4) 0 dJ5_equals_37 hk37 rfl in_J5 (by decide) q1160 hv37 ?_
  refine J.aloadQ_n 1 dJ5_equals_40 rfl ?_
  obtain ⟨b41_1, rfl, hw⟩ := hw
  obtain ⟨fs41, hk41, v41, hv41, hw⟩ := hw
  refine J.getfA (C := RJ5) (T0 := TJ5) (N := 4) 0 dJ5_equals_41 hk41 rfl in_J5 (by decide) q1160 hv41 ?_
  obtain ⟨b44_2, rfl, hw⟩ := hw
  obtain ⟨b44_3, rfl, hw⟩ := hw
  refine krJ5_541 rfl htr dJ5_equals_44 (by omega) (Nat.le_of_ble_eq_true rfl) hw (fun r44 hw => ?_)
  refine J.if_eq 54 dJ5_equals_47 (by decide) ⟨fun c47 => ?_, fun c47 => ?_⟩
  · obtain ⟨hw, -⟩ := hw
    specialize hw c47
    refine J.iconst (v := (0 : Int32)) dJ5_equals_54 (by decide) ?_
    exact J.zret rfl rfl dJ5_equals_55 ⟨rfl, _, rfl, hw⟩
  · obtain ⟨-, hw⟩ := hw
    specialize hw c47
    refine J.iconst (v := (1 : Int32)) dJ5_equals_50 (by decide) ?_
    refine J.goto 55 dJ5_equals_51 (by decide) ?_
    exact J.zret rfl rfl dJ5_equals_55 ⟨rfl, _, rfl, hw⟩
def wJ5_equals (g : List jC) (h : Nat) (a1 : Nat) (Q : Int32 → Prop) : Prop :=
  ((h = a1 → Q (1 : Int32)) ∧ (¬ h = a1 → (jAp h a1 ∧ (∃ fs8 : List Value, g[a1]? = some (.inr (17, fs8)) ∧ (((1 : Int32) = 0 → Q (0 : Int32)) ∧ (¬ (1 : Int32) = 0 → (∃ fs15 : List Value, g[a1]? = some (.inr (17, fs15)) ∧ (((1 : Int32) = 0 → wJ5_equals_36 g h a1 Q (some a1)) ∧ (¬ (1 : Int32) = 0 → (∃ fs26 : List Value, g[h]? = some (.inr (17, fs26)) ∧ ∃ v26 : Int32, fs26[1]? = some (.int v26) ∧ (∃ fs30 : List Value, g[a1]? = some (.inr (17, fs30)) ∧ ∃ v30 : Int32, fs30[1]? = some (.int v30) ∧ ((¬ v26 = v30 → Q (0 : Int32)) ∧ (v26 = v30 → wJ5_equals_36 g h a1 Q (some a1))))))))))))))
theorem mJ5_equals {G : jG} {l : Launch} {d : Nat} (htr : l.stackTraces = false) (hdd : 1 ≤ d) {g : List jC} {h : Nat} {a1 : Nat} {Q : Int32 → Prop} (hw : wJ5_equals g h a1 Q) : JM G l MJ5_equals d 0 0 [.ref h, .ref a1] g (jRd g Q) jNo := by
  refine JM.intro (by decide) rfl htr (Nat.le_of_ble_eq_true rfl) ?_
  show J G l MJ5_equals d 0 0 0 [(0, .ref h), (1, .ref a1)] [] g _ _
  unfold wJ5_equals at hw
  refine J.aload_n 0 dJ5_equals_0 rfl ?_
  refine J.aload_n 1 dJ5_equals_1 rfl ?_
  by_cases c2 : h = a1
  · obtain ⟨hw, -⟩ := hw
    specialize hw c2
    refine J.acnpE (tgt := 7) dJ5_equals_2 (by decide) c2 ?_
    refine J.iconst (v := (1 : Int32)) dJ5_equals_5 (by decide) ?_
    exact J.zret rfl rfl dJ5_equals_6 ⟨rfl, _, rfl, hw⟩
  · obtain ⟨-, hw⟩ := hw
    specialize hw c2
    obtain ⟨h2, hw⟩ := hw
    refine J.acnpD (tgt := 7) dJ5_equals_2 (by decide) h2 ?_
    refine J.aload_n 1 dJ5_equals_7 rfl ?_
    obtain ⟨fs8, hk8, hw⟩ := hw
    refine J.instY dJ5_equals_8 hk8 rfl q1267 ?_
    refine J.if_eq 54 dJ5_equals_11 (by decide) ⟨fun c11 => ?_, fun c11 => ?_⟩
    · obtain ⟨hw, -⟩ := hw
      specialize hw c11
      refine J.iconst (v := (0 : Int32)) dJ5_equals_54 (by decide) ?_
      exact J.zret rfl rfl dJ5_equals_55 ⟨rfl, _, rfl, hw⟩
    · obtain ⟨-, hw⟩ := hw
      specialize hw c11
      refine J.aload_n 1 dJ5_equals_14 rfl ?_
      obtain ⟨fs15, hk15, hw⟩ := hw
      refine J.castYS dJ5_equals_15 hk15 rfl q1267 ?_
      refine J.astore_n (lv' := [(2, .ref a1), (0, .ref h), (1, .ref a1)]) dJ5_equals_18 (by decide) rfl ?_
      refine J.gets (q := ("java/lang/String", "COMPACT_STRINGS", "Z", .int (1 : Int32))) dJ5_equals_19 (List.mem_of_getElem? (i := 5) rfl) q1105 trivial ?_
      refine J.if_eq 36 dJ5_equals_22 (by decide) ⟨fun c22 => ?_, fun c22 => ?_⟩
      · obtain ⟨hw, -⟩ := hw
        specialize hw c22
        exact J.pick [1, 0] rfl (rJ5_equals_36 htr hdd hw)
      · obtain ⟨-, hw⟩ := hw
        specialize hw c22
        refine J.aload_n 1 dJ5_equals_25 rfl ?_
        obtain ⟨fs26, hk26, v26, hv26, hw⟩ := hw
        refine J.getfA (C := RJ5) (T0 := TJ5) (N := 4) 1 dJ5_equals_26 hk26 rfl in_J5 (by decide) q1161 hv26 ?_
        refine J.aload_n 0 dJ5_equals_29 rfl ?_
        obtain ⟨fs30, hk30, v30, hv30, hw⟩ := hw
        refine J.getfA (C := RJ5) (T0 := TJ5) (N := 4) 1 dJ5_equals_30 hk30 rfl in_J5 (by decide) q1161 hv30 ?_
        refine J.icmp_ne 54 dJ5_equals_33 (by decide) ⟨fun c33 => ?_, fun c33 => ?_⟩
        · obtain ⟨hw, -⟩ := hw
          specialize hw c33
          refine J.iconst (v := (0 : Int32)) dJ5_equals_54 (by decide) ?_
          exact J.zret rfl rfl dJ5_equals_55 ⟨rfl, _, rfl, hw⟩
        · obtain ⟨-, hw⟩ := hw
          specialize hw c33
          exact J.pick [1, 0] rfl (rJ5_equals_36 htr hdd hw)
