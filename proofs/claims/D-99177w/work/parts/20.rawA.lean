theorem lw_Ui {own : String} {idx : Nat} {C owner : String} {x y : MethodName} {b : ByteArray} {L : Nat} {r : Option FieldType} (h1 : Cond.methodLink own idx x ∈ lw_all) (h2 : Cond.sameMethod x.cls owner x.name x.desc ∈ lw_all) (h3 : Cond.selects C x y ∈ lw_all) (h4 : Cond.instanceMethod y ∈ lw_all) (h5 : Cond.initialized y.cls ∈ lw_all) (h6 : Cond.code y b L r ∈ lw_all) : GoodIn lw_all (va_wsU own idx C owner x y (ws_ y b L r)) := by
  refine lw_app ?_ (lw_meth h6)
  intro w hw
  simp only [List.mem_cons, List.not_mem_nil, or_false] at hw
  rcases hw with e | e | e | e | e <;> (rw [e]; assumption)
theorem lw_Fi {own : String} {idx : Nat} {C : String} {x y : MethodName} {b : ByteArray} {L : Nat} {r : Option FieldType} (h1 : Cond.methodLink own idx x ∈ lw_all) (h3 : Cond.selects C x y ∈ lw_all) (h4 : Cond.instanceMethod y ∈ lw_all) (h5 : Cond.initialized y.cls ∈ lw_all) (h6 : Cond.code y b L r ∈ lw_all) : GoodIn lw_all (va_wsF own idx C x y (ws_ y b L r)) := by
  refine lw_app ?_ (lw_meth h6)
  intro w hw
  simp only [List.mem_cons, List.not_mem_nil, or_false] at hw
  rcases hw with e | e | e | e <;> (rw [e]; assumption)
theorem va_rf_cat (o : Option Nat) : (va_rf o).category = 1 := by cases o <;> rfl
theorem J.acmpE {G : jG} {l : Launch} {M : jM} {d c n pc : Nat} {lv : List (Nat × Value)} {st : List Value} {g : List jC} {post : Option Value → List jC → Prop} {xp : String → List jC → Prop} {a b tgt : Nat} {off : Int} (hd : decode M.2.1 pc = .ok (.if_acmp .eq off, 3)) (ht : (pc : Int) + off = (tgt : Int)) (h : a = b) (kk : J G l M d c n tgt lv st g post xp) : J G l M d c n pc lv (.ref b :: .ref a :: st) g post xp := by
  subst h
  exact J.acmpS hd ht kk
theorem J.acnpE {G : jG} {l : Launch} {M : jM} {d c n pc : Nat} {lv : List (Nat × Value)} {st : List Value} {g : List jC} {post : Option Value → List jC → Prop} {xp : String → List jC → Prop} {a b tgt : Nat} {off : Int} (hd : decode M.2.1 pc = .ok (.if_acmp .ne off, 3)) (ht : (pc : Int) + off = (tgt : Int)) (h : a = b) (kk : J G l M d c n (pc + 3) lv st g post xp) : J G l M d c n pc lv (.ref b :: .ref a :: st) g post xp := by
  subst h
  exact J.acnpS hd ht kk

-- java/util/ArrayList.size()I
abbrev MJ2_size : jM := (yJ2_size, cJ2_size, 1, some .int, [])
def wJ2_size (g : List jC) (h : Nat) (Q : Int32 → Prop) : Prop :=
  (∃ fs1 : List Value, g[h]? = some (.inr (15, fs1)) ∧ jn ≤ h ∧ ∃ v1 : Int32, fs1[2]? = some (.int v1) ∧ Q v1)
theorem mJ2_size {G : jG} {l : Launch} {d : Nat} (htr : l.stackTraces = false) (hdd : 0 ≤ d) {g : List jC} {h : Nat} {Q : Int32 → Prop} (hw : wJ2_size g h Q) : JM G l MJ2_size d 0 0 [.ref h] g (jRd g Q) jNo := by
  refine JM.intro (by decide) rfl htr (Nat.le_of_ble_eq_true rfl) ?_
  show J G l MJ2_size d 0 0 0 [(0, .ref h)] [] g _ _
  unfold wJ2_size at hw
  refine J.aload_n 0 dJ2_size_0 rfl ?_
  obtain ⟨fs1, hk1, hn1, v1, hv1, hw⟩ := hw
  refine J.getf (C := RJ2) (T0 := TJ2) (N := 3) 2 dJ2_size_1 hn1 hk1 rfl in_J2 (by decide) q391 hv1 ?_
  exact J.iret rfl dJ2_size_4 ⟨rfl, _, rfl, hw⟩
-- jdk/internal/util/Preconditions.checkIndex(IILjava/util/function/BiFunction;)I
abbrev MJ11_checkIndex : jM := (yJ11_checkIndex, cJ11_checkIndex, 3, some .int, [])
def wJ11_checkIndex_9 (g : List jC) (a1 : Int32) (a2 : Int32) (a3 : Option Nat) (Q : Int32 → Prop) : Prop :=
  False
theorem rJ11_checkIndex_9 {G : jG} {l : Launch} {d : Nat} {c n : Nat} (htr : l.stackTraces = false) (hdd : 0 ≤ d) {g : List jC} {a1 : Int32} {a2 : Int32} {a3 : Option Nat} {Q : Int32 → Prop} (hw : wJ11_checkIndex_9 g a1 a2 a3 Q) : J G l MJ11_checkIndex d c n 9 [(0, .int a1), (1, .int a2), (2, va_rf a3)] [] g (jRd g Q) jNo := by
  unfold wJ11_checkIndex_9 at hw
  refine J.aloadQ_n 2 dJ11_checkIndex_9 rfl ?_
  refine J.iload_n 0 dJ11_checkIndex_10 rfl ?_
  refine J.iload_n 1 dJ11_checkIndex_11 rfl ?_
  exact hw.elim
def wJ11_checkIndex (g : List jC) (a1 : Int32) (a2 : Int32) (a3 : Option Nat) (Q : Int32 → Prop) : Prop :=
  ((a1 < 0 → wJ11_checkIndex_9 g a1 a2 a3 Q) ∧ (¬ a1 < 0 → ((a1 < a2 → Q a1) ∧ (¬ a1 < a2 → wJ11_checkIndex_9 g a1 a2 a3 Q))))
theorem mJ11_checkIndex {G : jG} {l : Launch} {d : Nat} (htr : l.stackTraces = false) (hdd : 0 ≤ d) {g : List jC} {a1 : Int32} {a2 : Int32} {a3 : Option Nat} {Q : Int32 → Prop} (hw : wJ11_checkIndex g a1 a2 a3 Q) : JM G l MJ11_checkIndex d 0 0 [.int a1, .int a2, va_rf a3] g (jRd g Q) jNo := by
  refine JM.intro (by decide) rfl htr (by cases a3 <;> exact Nat.le_of_ble_eq_true rfl) ?_
  show J G l MJ11_checkIndex d 0 0 0 [(0, .int a1), (1, .int a2), (2, va_rf a3)] [] g _ _
  unfold wJ11_checkIndex at hw
  refine J.iload_n 0 dJ11_checkIndex_0 rfl ?_
  refine J.if_lt 9 dJ11_checkIndex_1 (by decide) ⟨fun c1 => ?_, fun c1 => ?_⟩
  · obtain ⟨hw, -⟩ := hw
    specialize hw c1
    exact (rJ11_checkIndex_9 htr hdd hw)
  · obtain ⟨-, hw⟩ := hw
    specialize hw c1
    refine J.iload_n 0 dJ11_checkIndex_4 rfl ?_
    refine J.iload_n 1 dJ11_checkIndex_5 rfl ?_
    refine J.icmp_lt 16 dJ11_checkIndex_6 (by decide) ⟨fun c6 => ?_, fun c6 => ?_⟩
    · obtain ⟨hw, -⟩ := hw
      specialize hw c6
      refine J.iload_n 0 dJ11_checkIndex_16 rfl ?_
      exact J.iret rfl dJ11_checkIndex_17 ⟨rfl, _, rfl, hw⟩
    · obtain ⟨-, hw⟩ := hw
      specialize hw c6
      exact (rJ11_checkIndex_9 htr hdd hw)
theorem krJ22_105 {G : jG} {l : Launch} {M : jM} {d c n pc : Nat} {lv : List (Nat × Value)} {rest : List Value} {g : List jC} {post : Option Value → List jC → Prop} {xp : String → List jC → Prop} (hM : M.1.cls = RJ22) (htr : l.stackTraces = false) {a1 : Int32} {a2 : Int32} {a3 : Option Nat} {Q : Int32 → Prop} (hd : decode M.2.1 pc = .ok (.invokestatic 105, 3)) (hdd : 0 + 1 ≤ d) (hw8 : (rest.map fun v => v.category).sum ≤ 8) (hw : wJ11_checkIndex g a1 a2 a3 Q) (kk : ∀ r, Q r → J G l M d c n (pc + 3) lv (.int r :: rest) g post xp) : J G l M d c n pc lv (va_rf a3 :: .int a2 :: .int a1 :: rest) g post xp :=
  J.callS (As := [.int a1, .int a2, va_rf a3]) (hcw := by rw [hM]; exact lw_S q548 q549 q162 q550) (mJ11_checkIndex htr (Nat.le_refl _) hw) hd rfl ⟨by decide, by decide, by show _ = some 3; decide +kernel⟩ hw8 ⟨hdd, by decide⟩ jcc0 (fun r9 g9 h9 => by obtain ⟨rfl, r, rfl, h⟩ := h9; exact kk r h) jNo.x
-- java/util/Objects.checkIndex(II)I
abbrev MJ22_checkIndex : jM := (yJ22_checkIndex, cJ22_checkIndex, 2, some .int, [])
def wJ22_checkIndex (g : List jC) (a1 : Int32) (a2 : Int32) (Q : Int32 → Prop) : Prop :=
  wJ11_checkIndex g a1 a2 none (fun r3 => Q r3)
theorem mJ22_checkIndex {G : jG} {l : Launch} {d : Nat} (htr : l.stackTraces = false) (hdd : 1 ≤ d) {g : List jC} {a1 : Int32} {a2 : Int32} {Q : Int32 → Prop} (hw : wJ22_checkIndex g a1 a2 Q) : JM G l MJ22_checkIndex d 0 0 [.int a1, .int a2] g (jRd g Q) jNo := by
  refine JM.intro (by decide) rfl htr (Nat.le_of_ble_eq_true rfl) ?_
  show J G l MJ22_checkIndex d 0 0 0 [(0, .int a1), (1, .int a2)] [] g _ _
  unfold wJ22_checkIndex at hw
  refine J.iload_n 0 dJ22_checkIndex_0 rfl ?_
  refine J.iload_n 1 dJ22_checkIndex_1 rfl ?_
  refine J.null dJ22_checkIndex_2 ?_
  refine krJ22_105 rfl htr dJ22_checkIndex_3 (by omega) (Nat.le_of_ble_eq_true rfl) hw (fun r3 hw => ?_)
  exact J.iret rfl dJ22_checkIndex_6 ⟨rfl, _, rfl, hw⟩
-- java/util/ArrayList.elementData(I)Ljava/lang/Object;
abbrev MJ2_elementData : jM := (yJ2_elementData, cJ2_elementData, 2, some (.object "java/lang/Object"), [])
def wJ2_elementData (g : List jC) (h : Nat) (a1 : Int32) (Q : Option Nat → Prop) : Prop :=
  (∃ fs1 : List Value, g[h]? = some (.inr (15, fs1)) ∧ jn ≤ h ∧ ∃ v1 : Option Nat, fs1[1]? = some (va_rf v1) ∧ (∃ b5_1, v1 = some b5_1 ∧ (∃ (N5 : Nat) (f5 : Nat → Option Nat), g[b5_1]? = some (.inl (5, N5, .inr (.inr (.inr (.inr f5))))) ∧ jn ≤ b5_1 ∧ vp_in a1 N5 ∧ (∀ o5 : Option Nat, o5 = f5 a1.toNatClampNeg → Q o5))))
theorem mJ2_elementData {G : jG} {l : Launch} {d : Nat} (htr : l.stackTraces = false) (hdd : 0 ≤ d) {g : List jC} {h : Nat} {a1 : Int32} {Q : Option Nat → Prop} (hw : wJ2_elementData g h a1 Q) : JM G l MJ2_elementData d 0 0 [.ref h, .int a1] g (jPa g Q) jNo := by
  refine JM.intro (by decide) rfl htr (Nat.le_of_ble_eq_true rfl) ?_
  show J G l MJ2_elementData d 0 0 0 [(0, .ref h), (1, .int a1)] [] g _ _
  unfold wJ2_elementData at hw
  refine J.aload_n 0 dJ2_elementData_0 rfl ?_
  obtain ⟨fs1, hk1, hn1, v1, hv1, hw⟩ := hw
  refine J.getf (C := RJ2) (T0 := TJ2) (N := 3) 1 dJ2_elementData_1 hn1 hk1 rfl in_J2 (by decide) q390 hv1 ?_
  refine J.iload_n 1 dJ2_elementData_4 rfl ?_
  obtain ⟨b5_1, rfl, hw⟩ := hw
  obtain ⟨N5, f5, hk5, hn5, hi5, hw⟩ := hw
  refine J.aldq (C := "java/lang/Object") dJ2_elementData_5 hn5 hk5 rfl hi5 ?_
  refine J.nmq hw (fun o5 hw => ?_)
  exact J.aret rfl (Or.inl ⟨_, rfl⟩) (va_rf_nr o5) dJ2_elementData_6 ⟨rfl, _, rfl, hw⟩
theorem krJ2_118 {G : jG} {l : Launch} {M : jM} {d c n pc : Nat} {lv : List (Nat × Value)} {rest : List Value} {g : List jC} {post : Option Value → List jC → Prop} {xp : String → List jC → Prop} (hM : M.1.cls = RJ2) (htr : l.stackTraces = false) {a1 : Int32} {a2 : Int32} {Q : Int32 → Prop} (hd : decode M.2.1 pc = .ok (.invokestatic 118, 3)) (hdd : 1 + 1 ≤ d) (hw8 : (rest.map fun v => v.category).sum ≤ 8) (hw : wJ22_checkIndex g a1 a2 Q) (kk : ∀ r, Q r → J G l M d c n (pc + 3) lv (.int r :: rest) g post xp) : J G l M d c n pc lv (.int a2 :: .int a1 :: rest) g post xp :=
  J.callS (As := [.int a1, .int a2]) (hcw := by rw [hM]; exact lw_S q545 q546 q185 q547) (mJ22_checkIndex htr (Nat.le_refl _) hw) hd rfl ⟨by decide, by decide, by show _ = some 2; decide +kernel⟩ hw8 ⟨hdd, by decide⟩ jcc0 (fun r9 g9 h9 => by obtain ⟨rfl, r, rfl, h⟩ := h9; exact kk r h) jNo.x
theorem krJ2_123 {G : jG} {l : Launch} {M : jM} {d c n pc : Nat} {lv : List (Nat × Value)} {rest : List Value} {g : List jC} {post : Option Value → List jC → Prop} {xp : String → List jC → Prop} (hM : M.1.cls = RJ2) (htr : l.stackTraces = false) {h : Nat} {a1 : Int32} {fs9 : List Value} (hk9 : g[h]? = some (.inr (15, fs9))) {Q : Option Nat → Prop} (hd : decode M.2.1 pc = .ok (.invokevirtual 123, 3)) (hdd : 0 + 1 ≤ d) (hw8 : (rest.map fun v => v.category).sum ≤ 8) (hw : wJ2_elementData g h a1 Q) (kk : ∀ r, Q r → J G l M d c n (pc + 3) lv (va_rf r :: rest) g post xp) : J G l M d c n pc lv (.int a1 :: .ref h :: rest) g post xp :=
  J.callV (As := [.int a1]) (hcw := by rw [hM]; exact lw_V q551 q552 q553 q150 q554) (mJ2_elementData htr (Nat.le_refl _) hw) hd rfl ⟨15, _, _, hk9, rfl, rfl, fun _ => rfl⟩ ⟨rfl, by decide, by decide, by show _ = some 1; decide +kernel⟩ hw8 ⟨hdd, by decide⟩ jcc0 (fun r9 g9 h9 => by obtain ⟨rfl, r, rfl, h⟩ := h9; exact kk r h) jNo.x
-- java/util/ArrayList.get(I)Ljava/lang/Object;
abbrev MJ2_get : jM := (yJ2_get, cJ2_get, 2, some (.object "java/lang/Object"), [])
def wJ2_get (g : List jC) (h : Nat) (a1 : Int32) (Q : Option Nat → Prop) : Prop :=
  (∃ fs2 : List Value, g[h]? = some (.inr (15, fs2)) ∧ jn ≤ h ∧ ∃ v2 : Int32, fs2[2]? = some (.int v2) ∧ wJ22_checkIndex g a1 v2 (fun r5 => (∃ fs11 : List Value, g[h]? = some (.inr (15, fs11)) ∧ wJ2_elementData g h a1 (fun r11 => Q r11))))
theorem mJ2_get {G : jG} {l : Launch} {d : Nat} (htr : l.stackTraces = false) (hdd : 2 ≤ d) {g : List jC} {h : Nat} {a1 : Int32} {Q : Option Nat → Prop} (hw : wJ2_get g h a1 Q) : JM G l MJ2_get d 0 0 [.ref h, .int a1] g (jPa g Q) jNo := by
  refine JM.intro (by decide) rfl htr (Nat.le_of_ble_eq_true rfl) ?_
  show J G l MJ2_get d 0 0 0 [(0, .ref h), (1, .int a1)] [] g _ _
  unfold wJ2_get at hw
  refine J.iload_n 1 dJ2_get_0 rfl ?_
  refine J.aload_n 0 dJ2_get_1 rfl ?_
  obtain ⟨fs2, hk2, hn2, v2, hv2, hw⟩ := hw
  refine J.getf (C := RJ2) (T0 := TJ2) (N := 3) 2 dJ2_get_2 hn2 hk2 rfl in_J2 (by decide) q391 hv2 ?_
  refine krJ2_118 rfl htr dJ2_get_5 (by omega) (Nat.le_of_ble_eq_true rfl) hw (fun r5 hw => ?_)
  refine J.pop dJ2_get_8 rfl ?_
  refine J.aload_n 0 dJ2_get_9 rfl ?_
  refine J.iload_n 1 dJ2_get_10 rfl ?_
  obtain ⟨fs11, hk11, hw⟩ := hw
  refine krJ2_123 rfl htr hk11 dJ2_get_11 (by omega) (Nat.le_of_ble_eq_true rfl) hw (fun r11 hw => ?_)
  exact J.aret rfl (Or.inl ⟨_, rfl⟩) (va_rf_nr r11) dJ2_get_14 ⟨rfl, _, rfl, hw⟩
-- java/lang/Enum.ordinal()I
abbrev MJ18_ordinal : jM := (yJ18_ordinal, cJ18_ordinal, 1, some .int, [])
def wJ18_ordinal (g : List jC) (h : Nat) (Q : Int32 → Prop) : Prop :=
  (∃ fs1 : List Value, jcon[h]? = some (.inr (18, fs1)) ∧ h < jn ∧ ∃ v1 : Int32, fs1[0]? = some (.int v1) ∧ Q v1)
theorem mJ18_ordinal {G : jG} {l : Launch} {d : Nat} (htr : l.stackTraces = false) (hdd : 0 ≤ d) {g : List jC} {h : Nat} {Q : Int32 → Prop} (hw : wJ18_ordinal g h Q) : JM G l MJ18_ordinal d 0 0 [.ref h] g (jRd g Q) jNo := by
  refine JM.intro (by decide) rfl htr (Nat.le_of_ble_eq_true rfl) ?_
  show J G l MJ18_ordinal d 0 0 0 [(0, .ref h)] [] g _ _
  unfold wJ18_ordinal at hw
  refine J.aload_n 0 dJ18_ordinal_0 rfl ?_
  obtain ⟨fs1, hk1, hn1, v1, hv1, hw⟩ := hw
  refine J.getfC (T0 := jTF) 0 dJ18_ordinal_1 hn1 hk1 rfl q2843 hv1 ?_
  exact J.iret rfl dJ18_ordinal_4 ⟨rfl, _, rfl, hw⟩
theorem kord {G : jG} {l : Launch} {M : jM} {d c n pc : Nat} {lv : List (Nat × Value)} {rest : List Value} {g : List jC} {post : Option Value → List jC → Prop} {xp : String → List jC → Prop} (hM : M.1.cls = RX4) (htr : l.stackTraces = false) {b : Nat} {fs9 : List Value} (hk9 : g[b]? = some (.inr (18, fs9))) (hn9 : b < jn) {Q : Int32 → Prop} (hd : decode M.2.1 pc = .ok (.invokevirtual 7, 3)) (hdd : 1 ≤ d) (hw8 : (rest.map fun v => v.category).sum ≤ 8) (hw : wJ18_ordinal g b Q) (kk : ∀ r, Q r → J G l M d c n (pc + 3) lv (.int r :: rest) g post xp) : J G l M d c n pc lv (.ref b :: rest) g post xp :=
  J.callU (As := []) (x9 := ⟨"VisitingHours$Fact", "ordinal", "()I"⟩) (own9 := "java/lang/Enum") (C := "VisitingHours$Fact") (hcw := by rw [hM]; exact lw_Ui q587 q588 q590 q591 q172 q592) (mJ18_ordinal htr (Nat.le_refl _) hw) hd rfl ⟨18, _, _, hk9, rfl, rfl, fun h => absurd h (Nat.not_le.mpr hn9)⟩ rfl ⟨by decide, by decide, by show _ = some 0; decide +kernel⟩ hw8 ⟨by omega, by decide⟩ jcc0 (fun r9 g9 h9 => by obtain ⟨rfl, r, rfl, h⟩ := h9; exact kk r h) jNo.x
-- VisitingHours$Scene.of(LVisitingHours$Fact;)I
abbrev MX4_of : jM := (yX4_of, cX4_of, 2, some .int, [])
def wX4_of (g : List jC) (h : Nat) (a1 : Nat) (Q : Int32 → Prop) : Prop :=
  (∃ fs1 : List Value, jcon[a1]? = some (.inr (18, fs1)) ∧ g[a1]? = some (.inr (18, fs1)) ∧ a1 < jn ∧ wJ18_ordinal g a1 (fun r1 => ((r1 = (0 : Int32) → (∃ fs45 : List Value, g[h]? = some (.inr (3, fs45)) ∧ jn ≤ h ∧ ∃ v45 : Int32, fs45[0]? = some (.int v45) ∧ Q v45)) ∧ (¬ r1 = (0 : Int32) → ((r1 = (1 : Int32) → (∃ fs50 : List Value, g[h]? = some (.inr (3, fs50)) ∧ jn ≤ h ∧ ∃ v50 : Int32, fs50[1]? = some (.int v50) ∧ Q v50)) ∧ (¬ r1 = (1 : Int32) → ((r1 = (2 : Int32) → (∃ fs55 : List Value, g[h]? = some (.inr (3, fs55)) ∧ jn ≤ h ∧ ∃ v55 : Int32, fs55[2]? = some (.int v55) ∧ Q v55)) ∧ (¬ r1 = (2 : Int32) → ((r1 = (3 : Int32) → (∃ fs60 : List Value, g[h]? = some (.inr (3, fs60)) ∧ jn ≤ h ∧ ∃ v60 : Int32, fs60[3]? = some (.int v60) ∧ Q v60)) ∧ (¬ r1 = (3 : Int32) → ((r1 = (4 : Int32) → (∃ fs65 : List Value, g[h]? = some (.inr (3, fs65)) ∧ jn ≤ h ∧ ∃ v65 : Int32, fs65[4]? = some (.int v65) ∧ Q v65)) ∧ (¬ r1 = (4 : Int32) → ((r1 = (5 : Int32) → (∃ fs70 : List Value, g[h]? = some (.inr (3, fs70)) ∧ jn ≤ h ∧ ∃ v70 : Int32, fs70[5]? = some (.int v70) ∧ Q v70)) ∧ (¬ r1 = (5 : Int32) → (∃ fs75 : List Value, g[h]? = some (.inr (3, fs75)) ∧ jn ≤ h ∧ ∃ v75 : Int32, fs75[6]? = some (.int v75) ∧ Q v75)))))))))))))))
theorem mX4_of {G : jG} {l : Launch} {d : Nat} (htr : l.stackTraces = false) (hdd : 1 ≤ d) {g : List jC} {h : Nat} {a1 : Nat} {Q : Int32 → Prop} (hw : wX4_of g h a1 Q) : JM G l MX4_of d 0 0 [.ref h, .ref a1] g (jRd g Q) jNo := by
  refine JM.intro (by decide) rfl htr (Nat.le_of_ble_eq_true rfl) ?_
  show J G l MX4_of d 0 0 0 [(0, .ref h), (1, .ref a1)] [] g _ _
  unfold wX4_of at hw
  refine J.aload_n 1 dX4_of_0 rfl ?_
  obtain ⟨fs1, -, hk1, hn1, hw⟩ := hw
  refine kord rfl htr hk1 hn1 dX4_of_1 (by omega) (Nat.le_of_ble_eq_true rfl) hw (fun r1 hw => ?_)
  by_cases c4_0 : r1 = (0 : Int32)
  · obtain ⟨hw, -⟩ := hw
    specialize hw c4_0
    refine J.tableIn 44 dX4_of_4 (by rw [c4_0]; decide) (by rw [c4_0]; decide) (by rw [c4_0]; rfl) (by decide) ?_
    refine J.aload_n 0 dX4_of_44 rfl ?_
    obtain ⟨fs45, hk45, hn45, v45, hv45, hw⟩ := hw
    refine J.getf (C := RX4) (T0 := TX4) (N := 9) 0 dX4_of_45 hn45 hk45 rfl in_X4 (by decide) q337 hv45 ?_
    exact J.iret rfl dX4_of_48 ⟨rfl, _, rfl, hw⟩
  · obtain ⟨-, hw⟩ := hw
    specialize hw c4_0
    by_cases c4_1 : r1 = (1 : Int32)
    · obtain ⟨hw, -⟩ := hw
      specialize hw c4_1
      refine J.tableIn 49 dX4_of_4 (by rw [c4_1]; decide) (by rw [c4_1]; decide) (by rw [c4_1]; rfl) (by decide) ?_
      refine J.aload_n 0 dX4_of_49 rfl ?_
      obtain ⟨fs50, hk50, hn50, v50, hv50, hw⟩ := hw
      refine J.getf (C := RX4) (T0 := TX4) (N := 9) 1 dX4_of_50 hn50 hk50 rfl in_X4 (by decide) q339 hv50 ?_
      exact J.iret rfl dX4_of_53 ⟨rfl, _, rfl, hw⟩
    · obtain ⟨-, hw⟩ := hw
      specialize hw c4_1
      by_cases c4_2 : r1 = (2 : Int32)
      · obtain ⟨hw, -⟩ := hw
        specialize hw c4_2
        refine J.tableIn 54 dX4_of_4 (by rw [c4_2]; decide) (by rw [c4_2]; decide) (by rw [c4_2]; rfl) (by decide) ?_
        refine J.aload_n 0 dX4_of_54 rfl ?_
        obtain ⟨fs55, hk55, hn55, v55, hv55, hw⟩ := hw
        refine J.getf (C := RX4) (T0 := TX4) (N := 9) 2 dX4_of_55 hn55 hk55 rfl in_X4 (by decide) q341 hv55 ?_
        exact J.iret rfl dX4_of_58 ⟨rfl, _, rfl, hw⟩
      · obtain ⟨-, hw⟩ := hw
        specialize hw c4_2
        by_cases c4_3 : r1 = (3 : Int32)
        · obtain ⟨hw, -⟩ := hw
          specialize hw c4_3
          refine J.tableIn 59 dX4_of_4 (by rw [c4_3]; decide) (by rw [c4_3]; decide) (by rw [c4_3]; rfl) (by decide) ?_
          refine J.aload_n 0 dX4_of_59 rfl ?_
          obtain ⟨fs60, hk60, hn60, v60, hv60, hw⟩ := hw
          refine J.getf (C := RX4) (T0 := TX4) (N := 9) 3 dX4_of_60 hn60 hk60 rfl in_X4 (by decide) q343 hv60 ?_
          exact J.iret rfl dX4_of_63 ⟨rfl, _, rfl, hw⟩
        · obtain ⟨-, hw⟩ := hw
          specialize hw c4_3
          by_cases c4_4 : r1 = (4 : Int32)
          · obtain ⟨hw, -⟩ := hw
            specialize hw c4_4
            refine J.tableIn 64 dX4_of_4 (by rw [c4_4]; decide) (by rw [c4_4]; decide) (by rw [c4_4]; rfl) (by decide) ?_
            refine J.aload_n 0 dX4_of_64 rfl ?_
            obtain ⟨fs65, hk65, hn65, v65, hv65, hw⟩ := hw
            refine J.getf (C := RX4) (T0 := TX4) (N := 9) 4 dX4_of_65 hn65 hk65 rfl in_X4 (by decide) q346 hv65 ?_
            exact J.iret rfl dX4_of_68 ⟨rfl, _, rfl, hw⟩
          · obtain ⟨-, hw⟩ := hw
            specialize hw c4_4
            by_cases c4_5 : r1 = (5 : Int32)
            · obtain ⟨hw, -⟩ := hw
              specialize hw c4_5
              refine J.tableIn 69 dX4_of_4 (by rw [c4_5]; decide) (by rw [c4_5]; decide) (by rw [c4_5]; rfl) (by decide) ?_
              refine J.aload_n 0 dX4_of_69 rfl ?_
              obtain ⟨fs70, hk70, hn70, v70, hv70, hw⟩ := hw
              refine J.getf (C := RX4) (T0 := TX4) (N := 9) 5 dX4_of_70 hn70 hk70 rfl in_X4 (by decide) q348 hv70 ?_
              exact J.iret rfl dX4_of_73 ⟨rfl, _, rfl, hw⟩
            · obtain ⟨-, hw⟩ := hw
              specialize hw c4_5
              refine J.tableOut 74 dX4_of_4 (jsw6 c4_0 c4_1 c4_2 c4_3 c4_4 c4_5) (by decide) ?_
              refine J.aload_n 0 dX4_of_74 rfl ?_
              obtain ⟨fs75, hk75, hn75, v75, hv75, hw⟩ := hw
              refine J.getf (C := RX4) (T0 := TX4) (N := 9) 6 dX4_of_75 hn75 hk75 rfl in_X4 (by decide) q350 hv75 ?_
              exact J.iret rfl dX4_of_78 ⟨rfl, _, rfl, hw⟩
theorem krX15_17 {G : jG} {l : Launch} {M : jM} {d c n pc : Nat} {lv : List (Nat × Value)} {rest : List Value} {g : List jC} {post : Option Value → List jC → Prop} {xp : String → List jC → Prop} (hM : M.1.cls = RX15) (htr : l.stackTraces = false) {h : Nat} {a1 : Nat} {fs9 : List Value} (hk9 : g[h]? = some (.inr (3, fs9))) {Q : Int32 → Prop} (hd : decode M.2.1 pc = .ok (.invokevirtual 17, 3)) (hdd : 1 + 1 ≤ d) (hw8 : (rest.map fun v => v.category).sum ≤ 8) (hw : wX4_of g h a1 Q) (kk : ∀ r, Q r → J G l M d c n (pc + 3) lv (.int r :: rest) g post xp) : J G l M d c n pc lv (.ref a1 :: .ref h :: rest) g post xp :=
  J.callV (As := [.ref a1]) (hcw := by rw [hM]; exact lw_V q583 q584 q585 q147 q586) (mX4_of htr (Nat.le_refl _) hw) hd rfl ⟨3, _, _, hk9, rfl, rfl, fun _ => rfl⟩ ⟨rfl, by decide, by decide, by show _ = some 1; decide +kernel⟩ hw8 ⟨hdd, by decide⟩ jcc0 (fun r9 g9 h9 => by obtain ⟨rfl, r, rfl, h⟩ := h9; exact kk r h) jNo.x
-- VisitingHours$Part.in(LVisitingHours$Scene;)I
abbrev MX15_in : jM := (yX15_in, cX15_in, 2, some .int, [])
def wX15_in (g : List jC) (h : Nat) (a1 : Nat) (Q : Int32 → Prop) : Prop :=
  (∃ fs1 : List Value, g[h]? = some (.inr (13, fs1)) ∧ jn ≤ h ∧ ∃ v1 : Option Nat, fs1[1]? = some (va_rf v1) ∧ ((v1 = none → (∃ fs8 : List Value, g[h]? = some (.inr (13, fs8)) ∧ jn ≤ h ∧ ∃ v8 : Int32, fs8[0]? = some (.int v8) ∧ Q v8)) ∧ (∀ b4_1, v1 = some b4_1 → (∃ fs16 : List Value, g[h]? = some (.inr (13, fs16)) ∧ jn ≤ h ∧ ∃ v16 : Option Nat, fs16[1]? = some (va_rf v16) ∧ (∃ b19_2, v16 = some b19_2 ∧ (∃ fs19 : List Value, g[a1]? = some (.inr (3, fs19)) ∧ wX4_of g a1 b19_2 (fun r19 => Q r19)))))))
theorem mX15_in {G : jG} {l : Launch} {d : Nat} (htr : l.stackTraces = false) (hdd : 2 ≤ d) {g : List jC} {h : Nat} {a1 : Nat} {Q : Int32 → Prop} (hw : wX15_in g h a1 Q) : JM G l MX15_in d 0 0 [.ref h, .ref a1] g (jRd g Q) jNo := by
  refine JM.intro (by decide) rfl htr (Nat.le_of_ble_eq_true rfl) ?_
  show J G l MX15_in d 0 0 0 [(0, .ref h), (1, .ref a1)] [] g _ _
  unfold wX15_in at hw
  refine J.aload_n 0 dX15_in_0 rfl ?_
  obtain ⟨fs1, hk1, hn1, v1, hv1, hw⟩ := hw
  refine J.getf (C := RX15) (T0 := TX15) (N := 2) 1 dX15_in_1 hn1 hk1 rfl in_X15 (by decide) q1523 hv1 ?_
  refine J.ifnonnullQ 14 dX15_in_4 (by decide) (fun b4_1 e9 => ?_) (fun e9 => ?_)
  · subst e9
    obtain ⟨-, hw⟩ := hw
    specialize hw _ rfl
    refine J.aload_n 1 dX15_in_14 rfl ?_
    refine J.aload_n 0 dX15_in_15 rfl ?_
    obtain ⟨fs16, hk16, hn16, v16, hv16, hw⟩ := hw
    refine J.getf (C := RX15) (T0 := TX15) (N := 2) 1 dX15_in_16 hn16 hk16 rfl in_X15 (by decide) q1523 hv16 ?_
    obtain ⟨b19_2, rfl, hw⟩ := hw
    obtain ⟨fs19, hk19, hw⟩ := hw
    refine krX15_17 rfl htr hk19 dX15_in_19 (by omega) (Nat.le_of_ble_eq_true rfl) hw (fun r19 hw => ?_)
    exact J.iret rfl dX15_in_22 ⟨rfl, _, rfl, hw⟩
  · subst e9
    obtain ⟨hw, -⟩ := hw
    specialize hw rfl
    refine J.aload_n 0 dX15_in_7 rfl ?_
    obtain ⟨fs8, hk8, hn8, v8, hv8, hw⟩ := hw
    refine J.getf (C := RX15) (T0 := TX15) (N := 2) 0 dX15_in_8 hn8 hk8 rfl in_X15 (by decide) q1522 hv8 ?_
    refine J.goto 22 dX15_in_11 (by decide) ?_
    exact J.iret rfl dX15_in_22 ⟨rfl, _, rfl, hw⟩
theorem krX14_16 {G : jG} {l : Launch} {M : jM} {d c n pc : Nat} {lv : List (Nat × Value)} {rest : List Value} {g : List jC} {post : Option Value → List jC → Prop} {xp : String → List jC → Prop} (hM : M.1.cls = RX14) (htr : l.stackTraces = false) {h : Nat} {fs9 : List Value} (hk9 : g[h]? = some (.inr (15, fs9))) {Q : Int32 → Prop} (hd : decode M.2.1 pc = .ok (.invokevirtual 16, 3)) (hdd : 0 + 1 ≤ d) (hw8 : (rest.map fun v => v.category).sum ≤ 8) (hw : wJ2_size g h Q) (kk : ∀ r, Q r → J G l M d c n (pc + 3) lv (.int r :: rest) g post xp) : J G l M d c n pc lv (.ref h :: rest) g post xp :=
  J.callV (As := []) (hcw := by rw [hM]; exact lw_V q576 q538 q539 q150 q540) (mJ2_size htr (Nat.le_refl _) hw) hd rfl ⟨15, _, _, hk9, rfl, rfl, fun _ => rfl⟩ ⟨rfl, by decide, by decide, by show _ = some 0; decide +kernel⟩ hw8 ⟨hdd, by decide⟩ jcc0 (fun r9 g9 h9 => by obtain ⟨rfl, r, rfl, h⟩ := h9; exact kk r h) jNo.x
theorem krX14_20 {G : jG} {l : Launch} {M : jM} {d c n pc : Nat} {lv : List (Nat × Value)} {rest : List Value} {g : List jC} {post : Option Value → List jC → Prop} {xp : String → List jC → Prop} (hM : M.1.cls = RX14) (htr : l.stackTraces = false) {h : Nat} {a1 : Int32} {fs9 : List Value} (hk9 : g[h]? = some (.inr (15, fs9))) {Q : Option Nat → Prop} (hd : decode M.2.1 pc = .ok (.invokevirtual 20, 3)) (hdd : 2 + 1 ≤ d) (hw8 : (rest.map fun v => v.category).sum ≤ 8) (hw : wJ2_get g h a1 Q) (kk : ∀ r, Q r → J G l M d c n (pc + 3) lv (va_rf r :: rest) g post xp) : J G l M d c n pc lv (.int a1 :: .ref h :: rest) g post xp :=
  J.callV (As := [.int a1]) (hcw := by rw [hM]; exact lw_V q577 q542 q543 q150 q544) (mJ2_get htr (Nat.le_refl _) hw) hd rfl ⟨15, _, _, hk9, rfl, rfl, fun _ => rfl⟩ ⟨rfl, by decide, by decide, by show _ = some 1; decide +kernel⟩ hw8 ⟨hdd, by decide⟩ jcc0 (fun r9 g9 h9 => by obtain ⟨rfl, r, rfl, h⟩ := h9; exact kk r h) jNo.x
theorem krX14_26 {G : jG} {l : Launch} {M : jM} {d c n pc : Nat} {lv : List (Nat × Value)} {rest : List Value} {g : List jC} {post : Option Value → List jC → Prop} {xp : String → List jC → Prop} (hM : M.1.cls = RX14) (htr : l.stackTraces = false) {h : Nat} {a1 : Nat} {fs9 : List Value} (hk9 : g[h]? = some (.inr (13, fs9))) {Q : Int32 → Prop} (hd : decode M.2.1 pc = .ok (.invokevirtual 26, 3)) (hdd : 2 + 1 ≤ d) (hw8 : (rest.map fun v => v.category).sum ≤ 8) (hw : wX15_in g h a1 Q) (kk : ∀ r, Q r → J G l M d c n (pc + 3) lv (.int r :: rest) g post xp) : J G l M d c n pc lv (.ref a1 :: .ref h :: rest) g post xp :=
  J.callV (As := [.ref a1]) (hcw := by rw [hM]; exact lw_V q579 q580 q581 q179 q582) (mX15_in htr (Nat.le_refl _) hw) hd rfl ⟨13, _, _, hk9, rfl, rfl, fun _ => rfl⟩ ⟨rfl, by decide, by decide, by show _ = some 1; decide +kernel⟩ hw8 ⟨hdd, by decide⟩ jcc0 (fun r9 g9 h9 => by obtain ⟨rfl, r, rfl, h⟩ := h9; exact kk r h) jNo.x
-- VisitingHours$Sum.in(LVisitingHours$Scene;)I
abbrev MX14_in : jM := (yX14_in, cX14_in, 4, some .int, [])
def wX14_in_4 (g : List jC) (h : Nat) (a1 : Nat) (Q : Int32 → Prop) : Nat → Int32 → Int32 → Prop
  | 0, _, _ => False
  | f + 1, x2, x3 =>
    (∃ fs6 : List Value, g[h]? = some (.inr (12, fs6)) ∧ jn ≤ h ∧ ∃ v6 : Option Nat, fs6[0]? = some (va_rf v6) ∧ (∃ b9_1, v6 = some b9_1 ∧ (∃ fs9 : List Value, g[b9_1]? = some (.inr (15, fs9)) ∧ wJ2_size g b9_1 (fun r9 => ((r9 ≤ x3 → Q x2) ∧ (¬ r9 ≤ x3 → (∃ fs17 : List Value, g[h]? = some (.inr (12, fs17)) ∧ jn ≤ h ∧ ∃ v17 : Option Nat, fs17[0]? = some (va_rf v17) ∧ (∃ b21_2, v17 = some b21_2 ∧ (∃ fs21 : List Value, g[b21_2]? = some (.inr (15, fs21)) ∧ wJ2_get g b21_2 x3 (fun r21 => (∃ b24_3, r21 = some b24_3 ∧ (∃ fs24 : List Value, g[b24_3]? = some (.inr (13, fs24)) ∧ jn ≤ b24_3 ∧ (∃ fs28 : List Value, g[b24_3]? = some (.inr (13, fs28)) ∧ wX15_in g b24_3 a1 (fun r28 => (∀ y32 : Int32, y32 = (x2 + r28) → (∀ y33 : Int32, y33 = x3 + (1 : Int32) → wX14_in_4 g h a1 Q f y32 y33))))))))))))))))
theorem rX14_in_4 {G : jG} {l : Launch} {d : Nat} {c n : Nat} (htr : l.stackTraces = false) (hdd : 3 ≤ d) {g : List jC} {h : Nat} {a1 : Nat} {Q : Int32 → Prop} : ∀ (f : Nat) (x2 : Int32) (x3 : Int32), wX14_in_4 g h a1 Q f x2 x3 → J G l MX14_in d c n 4 [(0, .ref h), (1, .ref a1), (2, .int x2), (3, .int x3)] [] g (jRd g Q) jNo := by
  intro f
  induction f with
  | zero =>
    intro x2 x3 hw
    rw [wX14_in_4] at hw
    exact hw.elim
  | succ f ih =>
    intro x2 x3 hw
    rw [wX14_in_4] at hw
    refine J.iload_n 3 dX14_in_4 rfl ?_
    refine J.aload_n 0 dX14_in_5 rfl ?_
    obtain ⟨fs6, hk6, hn6, v6, hv6, hw⟩ := hw
    refine J.getf (C := RX14) (T0 := TX14) (N := 1) 0 dX14_in_6 hn6 hk6 rfl in_X14 (by decide) q1503 hv6 ?_
    obtain ⟨b9_1, rfl, hw⟩ := hw
    obtain ⟨fs9, hk9, hw⟩ := hw
    refine krX14_16 rfl htr hk9 dX14_in_9 (by omega) (Nat.le_of_ble_eq_true rfl) hw (fun r9 hw => ?_)
    refine J.icmp_ge 39 dX14_in_12 (by decide) ⟨fun c12 => ?_, fun c12 => ?_⟩
    · obtain ⟨hw, -⟩ := hw
      specialize hw c12
      refine J.iload_n 2 dX14_in_39 rfl ?_
      exact J.iret rfl dX14_in_40 ⟨rfl, _, rfl, hw⟩
    · obtain ⟨-, hw⟩ := hw
      specialize hw c12
      refine J.iload_n 2 dX14_in_15 rfl ?_
      refine J.aload_n 0 dX14_in_16 rfl ?_
      obtain ⟨fs17, hk17, hn17, v17, hv17, hw⟩ := hw
      refine J.getf (C := RX14) (T0 := TX14) (N := 1) 0 dX14_in_17 hn17 hk17 rfl in_X14 (by decide) q1503 hv17 ?_
      refine J.iload_n 3 dX14_in_20 rfl ?_
      obtain ⟨b21_2, rfl, hw⟩ := hw
      obtain ⟨fs21, hk21, hw⟩ := hw
      refine krX14_20 rfl htr hk21 dX14_in_21 (by omega) (Nat.le_of_ble_eq_true rfl) hw (fun r21 hw => ?_)
      obtain ⟨b24_3, rfl, hw⟩ := hw
      obtain ⟨fs24, hk24, hn24, hw⟩ := hw
      refine J.castS dX14_in_24 hn24 hk24 rfl q578 ?_
      refine J.aload_n 1 dX14_in_27 rfl ?_
      obtain ⟨fs28, hk28, hw⟩ := hw
      refine krX14_26 rfl htr hk28 dX14_in_28 (by omega) (Nat.le_of_ble_eq_true rfl) hw (fun r28 hw => ?_)
      refine J.iadd dX14_in_31 ?_
      refine J.nm hw (fun y32 hw => ?_)
      refine J.istore_n (lv' := [(2, .int y32), (0, .ref h), (1, .ref a1), (3, .int x3)]) dX14_in_32 (by decide) rfl ?_
      refine J.iincN 3 (K := (1 : Int32)) (lv' := fun y33 => [(3, .int y33), (2, .int y32), (0, .ref h), (1, .ref a1)]) dX14_in_33 rfl (by decide) (by decide) (fun _ => rfl) hw (fun y33 hw => ?_)
      refine J.goto 4 dX14_in_36 (by decide) ?_
      exact J.pick [2, 3, 1, 0] rfl (ih _ _ hw)
def wX14_in (g : List jC) (h : Nat) (a1 : Nat) (Q : Int32 → Prop) : Prop :=
  (∃ f9, wX14_in_4 g h a1 Q f9 (0 : Int32) (0 : Int32))
theorem mX14_in {G : jG} {l : Launch} {d : Nat} (htr : l.stackTraces = false) (hdd : 3 ≤ d) {g : List jC} {h : Nat} {a1 : Nat} {Q : Int32 → Prop} (hw : wX14_in g h a1 Q) : JM G l MX14_in d 0 0 [.ref h, .ref a1] g (jRd g Q) jNo := by
  refine JM.intro (by decide) rfl htr (Nat.le_of_ble_eq_true rfl) ?_
  show J G l MX14_in d 0 0 0 [(0, .ref h), (1, .ref a1)] [] g _ _
  unfold wX14_in at hw
  refine J.iconst (v := (0 : Int32)) dX14_in_0 (by decide) ?_
  refine J.istore_n (lv' := [(2, .int (0 : Int32)), (0, .ref h), (1, .ref a1)]) dX14_in_1 (by decide) rfl ?_
  refine J.iconst (v := (0 : Int32)) dX14_in_2 (by decide) ?_
  refine J.istore_n (lv' := [(3, .int (0 : Int32)), (2, .int (0 : Int32)), (0, .ref h), (1, .ref a1)]) dX14_in_3 (by decide) rfl ?_
  obtain ⟨f9, hw⟩ := hw
  exact J.pick [2, 3, 1, 0] rfl (rX14_in_4 htr hdd f9 _ _ hw)
-- VisitingHours$Tag.holds(LVisitingHours$Scene;)Z
abbrev MX13_holds : jM := (yX13_holds, cX13_holds, 2, some .boolean, [])
def wX13_holds (g : List jC) (h : Nat) (a1 : Nat) (Q : Int32 → Prop) : Prop :=
  (∃ fs1 : List Value, g[h]? = some (.inr (11, fs1)) ∧ jn ≤ h ∧ ∃ v1 : Int32, fs1[0]? = some (.int v1) ∧ ((v1 = 0 → (∃ fs15 : List Value, g[a1]? = some (.inr (3, fs15)) ∧ jn ≤ a1 ∧ ∃ v15 : Int32, fs15[8]? = some (.int v15) ∧ (jz v15 ∧ Q v15))) ∧ (¬ v1 = 0 → (∃ fs8 : List Value, g[a1]? = some (.inr (3, fs8)) ∧ jn ≤ a1 ∧ ∃ v8 : Int32, fs8[7]? = some (.int v8) ∧ (jz v8 ∧ Q v8)))))
theorem mX13_holds {G : jG} {l : Launch} {d : Nat} (htr : l.stackTraces = false) (hdd : 0 ≤ d) {g : List jC} {h : Nat} {a1 : Nat} {Q : Int32 → Prop} (hw : wX13_holds g h a1 Q) : JM G l MX13_holds d 0 0 [.ref h, .ref a1] g (jRd g Q) jNo := by
  refine JM.intro (by decide) rfl htr (Nat.le_of_ble_eq_true rfl) ?_
  show J G l MX13_holds d 0 0 0 [(0, .ref h), (1, .ref a1)] [] g _ _
  unfold wX13_holds at hw
  refine J.aload_n 0 dX13_holds_0 rfl ?_
  obtain ⟨fs1, hk1, hn1, v1, hv1, hw⟩ := hw
  refine J.getf (C := RX13) (T0 := TX13) (N := 1) 0 dX13_holds_1 hn1 hk1 rfl in_X13 (by decide) q1486 hv1 ?_
  refine J.if_eq 14 dX13_holds_4 (by decide) ⟨fun c4 => ?_, fun c4 => ?_⟩
  · obtain ⟨hw, -⟩ := hw
    specialize hw c4
    refine J.aload_n 1 dX13_holds_14 rfl ?_
    obtain ⟨fs15, hk15, hn15, v15, hv15, hw⟩ := hw
    refine J.getfN (C := RX4) (T0 := TX4) (N := 9) 8 dX13_holds_15 hn15 hk15 rfl in_X4 (by decide) nw355 hv15 ?_
    exact J.zret rfl (jz_nar hw.1) dX13_holds_18 ⟨rfl, _, rfl, hw.2⟩
  · obtain ⟨-, hw⟩ := hw
    specialize hw c4
    refine J.aload_n 1 dX13_holds_7 rfl ?_
    obtain ⟨fs8, hk8, hn8, v8, hv8, hw⟩ := hw
    refine J.getfN (C := RX4) (T0 := TX4) (N := 9) 7 dX13_holds_8 hn8 hk8 rfl in_X4 (by decide) nw352 hv8 ?_
    refine J.goto 18 dX13_holds_11 (by decide) ?_
    exact J.zret rfl (jz_nar hw.1) dX13_holds_18 ⟨rfl, _, rfl, hw.2⟩
theorem krX17_16 {G : jG} {l : Launch} {M : jM} {d c n pc : Nat} {lv : List (Nat × Value)} {rest : List Value} {g : List jC} {post : Option Value → List jC → Prop} {xp : String → List jC → Prop} (hM : M.1.cls = RX17) (htr : l.stackTraces = false) {h : Nat} {a1 : Nat} {fs9 : List Value} (hk9 : g[h]? = some (.inr (12, fs9))) {Q : Int32 → Prop} (hd : decode M.2.1 pc = .ok (.invokevirtual 16, 3)) (hdd : 3 + 1 ≤ d) (hw8 : (rest.map fun v => v.category).sum ≤ 8) (hw : wX14_in g h a1 Q) (kk : ∀ r, Q r → J G l M d c n (pc + 3) lv (.int r :: rest) g post xp) : J G l M d c n pc lv (.ref a1 :: .ref h :: rest) g post xp :=
  J.callV (As := [.ref a1]) (hcw := by rw [hM]; exact lw_V q572 q573 q574 q178 q575) (mX14_in htr (Nat.le_refl _) hw) hd rfl ⟨12, _, _, hk9, rfl, rfl, fun _ => rfl⟩ ⟨rfl, by decide, by decide, by show _ = some 1; decide +kernel⟩ hw8 ⟨hdd, by decide⟩ jcc0 (fun r9 g9 h9 => by obtain ⟨rfl, r, rfl, h⟩ := h9; exact kk r h) jNo.x
-- VisitingHours$Less.holds(LVisitingHours$Scene;)Z
abbrev MX17_holds : jM := (yX17_holds, cX17_holds, 2, some .boolean, [])
def wX17_holds (g : List jC) (h : Nat) (a1 : Nat) (Q : Int32 → Prop) : Prop :=
  (∃ fs1 : List Value, g[h]? = some (.inr (14, fs1)) ∧ jn ≤ h ∧ ∃ v1 : Option Nat, fs1[0]? = some (va_rf v1) ∧ (∃ b5_1, v1 = some b5_1 ∧ (∃ fs5 : List Value, g[b5_1]? = some (.inr (12, fs5)) ∧ wX14_in g b5_1 a1 (fun r5 => (∃ fs9 : List Value, g[h]? = some (.inr (14, fs9)) ∧ jn ≤ h ∧ ∃ v9 : Option Nat, fs9[1]? = some (va_rf v9) ∧ (∃ b13_2, v9 = some b13_2 ∧ (∃ fs13 : List Value, g[b13_2]? = some (.inr (12, fs13)) ∧ wX14_in g b13_2 a1 (fun r13 => ((r13 ≤ r5 → Q (0 : Int32)) ∧ (¬ r13 ≤ r5 → Q (1 : Int32)))))))))))
theorem mX17_holds {G : jG} {l : Launch} {d : Nat} (htr : l.stackTraces = false) (hdd : 4 ≤ d) {g : List jC} {h : Nat} {a1 : Nat} {Q : Int32 → Prop} (hw : wX17_holds g h a1 Q) : JM G l MX17_holds d 0 0 [.ref h, .ref a1] g (jRd g Q) jNo := by
  refine JM.intro (by decide) rfl htr (Nat.le_of_ble_eq_true rfl) ?_
  show J G l MX17_holds d 0 0 0 [(0, .ref h), (1, .ref a1)] [] g _ _
  unfold wX17_holds at hw
  refine J.aload_n 0 dX17_holds_0 rfl ?_
  obtain ⟨fs1, hk1, hn1, v1, hv1, hw⟩ := hw
  refine J.getf (C := RX17) (T0 := TX17) (N := 2) 0 dX17_holds_1 hn1 hk1 rfl in_X17 (by decide) q1609 hv1 ?_
  refine J.aload_n 1 dX17_holds_4 rfl ?_
  obtain ⟨b5_1, rfl, hw⟩ := hw
  obtain ⟨fs5, hk5, hw⟩ := hw
  refine krX17_16 rfl htr hk5 dX17_holds_5 (by omega) (Nat.le_of_ble_eq_true rfl) hw (fun r5 hw => ?_)
  refine J.aload_n 0 dX17_holds_8 rfl ?_
  obtain ⟨fs9, hk9, hn9, v9, hv9, hw⟩ := hw
  refine J.getf (C := RX17) (T0 := TX17) (N := 2) 1 dX17_holds_9 hn9 hk9 rfl in_X17 (by decide) q1610 hv9 ?_
  refine J.aload_n 1 dX17_holds_12 rfl ?_
  obtain ⟨b13_2, rfl, hw⟩ := hw
  obtain ⟨fs13, hk13, hw⟩ := hw
  refine krX17_16 rfl htr hk13 dX17_holds_13 (by omega) (Nat.le_of_ble_eq_true rfl) hw (fun r13 hw => ?_)
  refine J.icmp_ge 23 dX17_holds_16 (by decide) ⟨fun c16 => ?_, fun c16 => ?_⟩
  · obtain ⟨hw, -⟩ := hw
    specialize hw c16
    refine J.iconst (v := (0 : Int32)) dX17_holds_23 (by decide) ?_
    exact J.zret rfl rfl dX17_holds_24 ⟨rfl, _, rfl, hw⟩
  · obtain ⟨-, hw⟩ := hw
    specialize hw c16
    refine J.iconst (v := (1 : Int32)) dX17_holds_19 (by decide) ?_
    refine J.goto 24 dX17_holds_20 (by decide) ?_
    exact J.zret rfl rfl dX17_holds_24 ⟨rfl, _, rfl, hw⟩
abbrev MX11_holds : jM := (yX11_holds, cX11_holds, 3, some .boolean, [])
abbrev MX12_holds : jM := (yX12_holds, cX12_holds, 2, some .boolean, [])
def jHolds (G : jG) (l : Launch) (d : Nat) (g : List jC) (a s : Nat) (Q : Int32 → Prop) : Prop :=
  (∃ fs : List Value, jn ≤ a ∧ g[a]? = some (.inr (9, fs)) ∧ JM G l MX11_holds d 0 0 [.ref a, .ref s] g (jRd g Q) jNo) ∨ (∃ fs : List Value, jn ≤ a ∧ g[a]? = some (.inr (10, fs)) ∧ JM G l MX12_holds d 0 0 [.ref a, .ref s] g (jRd g Q) jNo) ∨ (∃ fs : List Value, jn ≤ a ∧ g[a]? = some (.inr (11, fs)) ∧ JM G l MX13_holds d 0 0 [.ref a, .ref s] g (jRd g Q) jNo) ∨ (∃ fs : List Value, jn ≤ a ∧ g[a]? = some (.inr (14, fs)) ∧ JM G l MX17_holds d 0 0 [.ref a, .ref s] g (jRd g Q) jNo)
theorem kfX11_30 {G : jG} {l : Launch} {M : jM} {d c n pc : Nat} {lv : List (Nat × Value)} {rest : List Value} {g : List jC} {post : Option Value → List jC → Prop} {xp : String → List jC → Prop} (hM : M.1.cls = RX11) (htr : l.stackTraces = false) {dr a s : Nat} {Q : Int32 → Prop} (hH : jHolds G l dr g a s Q) (hd : decode M.2.1 pc = .ok (.invokeinterface 30 2, 5)) (hdr : dr + 1 ≤ d) (hw8 : (rest.map fun v => v.category).sum ≤ 8) (kk : ∀ r, Q r → J G l M d c n (pc + 5) lv (.int r :: rest) g post xp) : J G l M d c n pc lv (.ref s :: .ref a :: rest) g post xp := by
  rcases hH with ⟨fs9, hn9, hk9, hm⟩ | ⟨fs9, hn9, hk9, hm⟩ | ⟨fs9, hn9, hk9, hm⟩ | ⟨fs9, hn9, hk9, hm⟩
  · exact J.callF (As := [.ref s]) (x9 := ⟨"VisitingHours$Cond", "holds", "(LVisitingHours$Scene;)Z"⟩) (C := RX11) (hcw := by rw [hM]; exact lw_Fi q611 q602 q604 q175 q606) (hfw := List.mem_of_getElem? (i := 2) rfl) hm hd rfl ⟨9, _, _, hn9, hk9, rfl, rfl⟩ ⟨by decide, by decide, by show _ = some 1; decide +kernel⟩ hw8 ⟨hdr, by decide⟩ jcc0 (fun r9 g9 h9 => by obtain ⟨rfl, r, rfl, h⟩ := h9; exact kk r h) jNo.x
  · exact J.callF (As := [.ref s]) (x9 := ⟨"VisitingHours$Cond", "holds", "(LVisitingHours$Scene;)Z"⟩) (C := RX12) (hcw := by rw [hM]; exact lw_Fi q611 q594 q596 q176 q598) (hfw := List.mem_of_getElem? (i := 1) rfl) hm hd rfl ⟨10, _, _, hn9, hk9, rfl, rfl⟩ ⟨by decide, by decide, by show _ = some 1; decide +kernel⟩ hw8 ⟨hdr, by decide⟩ jcc0 (fun r9 g9 h9 => by obtain ⟨rfl, r, rfl, h⟩ := h9; exact kk r h) jNo.x
  · exact J.callF (As := [.ref s]) (x9 := ⟨"VisitingHours$Cond", "holds", "(LVisitingHours$Scene;)Z"⟩) (C := RX13) (hcw := by rw [hM]; exact lw_Fi q611 q613 q615 q177 q617) (hfw := List.mem_of_getElem? (i := 3) rfl) hm hd rfl ⟨11, _, _, hn9, hk9, rfl, rfl⟩ ⟨by decide, by decide, by show _ = some 1; decide +kernel⟩ hw8 ⟨hdr, by decide⟩ jcc0 (fun r9 g9 h9 => by obtain ⟨rfl, r, rfl, h⟩ := h9; exact kk r h) jNo.x
  · exact J.callF (As := [.ref s]) (x9 := ⟨"VisitingHours$Cond", "holds", "(LVisitingHours$Scene;)Z"⟩) (C := RX17) (hcw := by rw [hM]; exact lw_Fi q611 q567 q569 q181 q571) (hfw := List.mem_of_getElem? (i := 0) rfl) hm hd rfl ⟨14, _, _, hn9, hk9, rfl, rfl⟩ ⟨by decide, by decide, by show _ = some 1; decide +kernel⟩ hw8 ⟨hdr, by decide⟩ jcc0 (fun r9 g9 h9 => by obtain ⟨rfl, r, rfl, h⟩ := h9; exact kk r h) jNo.x

theorem krX11_20 {G : jG} {l : Launch} {M : jM} {d c n pc : Nat} {lv : List (Nat × Value)} {rest : List Value} {g : List jC} {post : Option Value → List jC → Prop} {xp : String → List jC → Prop} (hM : M.1.cls = RX11) (htr : l.stackTraces = false) {h : Nat} {fs9 : List Value} (hk9 : g[h]? = some (.inr (15, fs9))) {Q : Int32 → Prop} (hd : decode M.2.1 pc = .ok (.invokevirtual 20, 3)) (hdd : 0 + 1 ≤ d) (hw8 : (rest.map fun v => v.category).sum ≤ 8) (hw : wJ2_size g h Q) (kk : ∀ r, Q r → J G l M d c n (pc + 3) lv (.int r :: rest) g post xp) : J G l M d c n pc lv (.ref h :: rest) g post xp :=
  J.callV (As := []) (hcw := by rw [hM]; exact lw_V q607 q538 q539 q150 q540) (mJ2_size htr (Nat.le_refl _) hw) hd rfl ⟨15, _, _, hk9, rfl, rfl, fun _ => rfl⟩ ⟨rfl, by decide, by decide, by show _ = some 0; decide +kernel⟩ hw8 ⟨hdd, by decide⟩ jcc0 (fun r9 g9 h9 => by obtain ⟨rfl, r, rfl, h⟩ := h9; exact kk r h) jNo.x
theorem krX11_24 {G : jG} {l : Launch} {M : jM} {d c n pc : Nat} {lv : List (Nat × Value)} {rest : List Value} {g : List jC} {post : Option Value → List jC → Prop} {xp : String → List jC → Prop} (hM : M.1.cls = RX11) (htr : l.stackTraces = false) {h : Nat} {a1 : Int32} {fs9 : List Value} (hk9 : g[h]? = some (.inr (15, fs9))) {Q : Option Nat → Prop} (hd : decode M.2.1 pc = .ok (.invokevirtual 24, 3)) (hdd : 2 + 1 ≤ d) (hw8 : (rest.map fun v => v.category).sum ≤ 8) (hw : wJ2_get g h a1 Q) (kk : ∀ r, Q r → J G l M d c n (pc + 3) lv (va_rf r :: rest) g post xp) : J G l M d c n pc lv (.int a1 :: .ref h :: rest) g post xp :=
  J.callV (As := [.int a1]) (hcw := by rw [hM]; exact lw_V q608 q542 q543 q150 q544) (mJ2_get htr (Nat.le_refl _) hw) hd rfl ⟨15, _, _, hk9, rfl, rfl, fun _ => rfl⟩ ⟨rfl, by decide, by decide, by show _ = some 1; decide +kernel⟩ hw8 ⟨hdd, by decide⟩ jcc0 (fun r9 g9 h9 => by obtain ⟨rfl, r, rfl, h⟩ := h9; exact kk r h) jNo.x
-- VisitingHours$Row.holds(LVisitingHours$Scene;)Z
def wX11_holds_2 (g : List jC) (REC : Nat → Nat → (Int32 → Prop) → Prop) (h : Nat) (a1 : Nat) (Q : Int32 → Prop) : Nat → Int32 → Prop
  | 0, _ => False
  | f + 1, x2 =>
    (∃ fs4 : List Value, g[h]? = some (.inr (9, fs4)) ∧ jn ≤ h ∧ ∃ v4 : Option Nat, fs4[1]? = some (va_rf v4) ∧ (∃ b7_1, v4 = some b7_1 ∧ (∃ fs7 : List Value, g[b7_1]? = some (.inr (15, fs7)) ∧ wJ2_size g b7_1 (fun r7 => ((r7 ≤ x2 → (∃ fs57 : List Value, g[h]? = some (.inr (9, fs57)) ∧ jn ≤ h ∧ ∃ v57 : Int32, fs57[0]? = some (.int v57) ∧ (jz v57 ∧ Q v57))) ∧ (¬ r7 ≤ x2 → (∃ fs14 : List Value, g[h]? = some (.inr (9, fs14)) ∧ jn ≤ h ∧ ∃ v14 : Option Nat, fs14[1]? = some (va_rf v14) ∧ (∃ b18_2, v14 = some b18_2 ∧ (∃ fs18 : List Value, g[b18_2]? = some (.inr (15, fs18)) ∧ wJ2_get g b18_2 x2 (fun r18 => (∃ b21_3, r18 = some b21_3 ∧ (∃ C21, jRcv g b21_3 C21 ∧ Cond.castable C21 "VisitingHours$Cond" ∈ jnw ∧ (REC b21_3 a1 (fun r25 => (∃ fs31 : List Value, g[h]? = some (.inr (9, fs31)) ∧ jn ≤ h ∧ ∃ v31 : Int32, fs31[0]? = some (.int v31) ∧ ((r25 = v31 → (∀ y50 : Int32, y50 = x2 + (1 : Int32) → wX11_holds_2 g REC h a1 Q f y50)) ∧ (¬ r25 = v31 → (∃ fs38 : List Value, g[h]? = some (.inr (9, fs38)) ∧ jn ≤ h ∧ ∃ v38 : Int32, fs38[0]? = some (.int v38) ∧ ((¬ v38 = 0 → Q (0 : Int32)) ∧ (v38 = 0 → Q (1 : Int32)))))))))))))))))))))
theorem rX11_holds_2 {G : jG} {l : Launch} {d : Nat} {c n : Nat} (htr : l.stackTraces = false) (hdd : 3 ≤ d) {g : List jC} {REC : Nat → Nat → (Int32 → Prop) → Prop} {dr : Nat} (hdr : dr + 1 ≤ d) (hREC : ∀ {a s : Nat} {Q : Int32 → Prop}, REC a s Q → jHolds G l dr g a s Q) {h : Nat} {a1 : Nat} {Q : Int32 → Prop} : ∀ (f : Nat) (x2 : Int32), wX11_holds_2 g REC h a1 Q f x2 → J G l MX11_holds d c n 2 [(0, .ref h), (1, .ref a1), (2, .int x2)] [] g (jRd g Q) jNo := by
  intro f
  induction f with
  | zero =>
    intro x2 hw
    rw [wX11_holds_2] at hw
    exact hw.elim
  | succ f ih =>
    intro x2 hw
    rw [wX11_holds_2] at hw
    refine J.iload_n 2 dX11_holds_2 rfl ?_
    refine J.aload_n 0 dX11_holds_3 rfl ?_
    obtain ⟨fs4, hk4, hn4, v4, hv4, hw⟩ := hw
    refine J.getf (C := RX11) (T0 := TX11) (N := 2) 1 dX11_holds_4 hn4 hk4 rfl in_X11 (by decide) q1445 hv4 ?_
    obtain ⟨b7_1, rfl, hw⟩ := hw
    obtain ⟨fs7, hk7, hw⟩ := hw
    refine krX11_20 rfl htr hk7 dX11_holds_7 (by omega) (Nat.le_of_ble_eq_true rfl) hw (fun r7 hw => ?_)
    refine J.icmp_ge 56 dX11_holds_10 (by decide) ⟨fun c10 => ?_, fun c10 => ?_⟩
    · obtain ⟨hw, -⟩ := hw
      specialize hw c10
      refine J.aload_n 0 dX11_holds_56 rfl ?_
      obtain ⟨fs57, hk57, hn57, v57, hv57, hw⟩ := hw
      refine J.getf (C := RX11) (T0 := TX11) (N := 2) 0 dX11_holds_57 hn57 hk57 rfl in_X11 (by decide) q1444 hv57 ?_
      exact J.zret rfl (jz_nar hw.1) dX11_holds_60 ⟨rfl, _, rfl, hw.2⟩
    · obtain ⟨-, hw⟩ := hw
      specialize hw c10
      refine J.aload_n 0 dX11_holds_13 rfl ?_
      obtain ⟨fs14, hk14, hn14, v14, hv14, hw⟩ := hw
      refine J.getf (C := RX11) (T0 := TX11) (N := 2) 1 dX11_holds_14 hn14 hk14 rfl in_X11 (by decide) q1445 hv14 ?_
      refine J.iload_n 2 dX11_holds_17 rfl ?_
      obtain ⟨b18_2, rfl, hw⟩ := hw
      obtain ⟨fs18, hk18, hw⟩ := hw
      refine krX11_24 rfl htr hk18 dX11_holds_18 (by omega) (Nat.le_of_ble_eq_true rfl) hw (fun r18 hw => ?_)
      obtain ⟨b21_3, rfl, hw⟩ := hw
      obtain ⟨C21, hk21, hn21, hw⟩ := hw
      refine J.castY dX11_holds_21 q609 hn21 hk21 ?_
      refine J.aload_n 1 dX11_holds_24 rfl ?_
      refine kfX11_30 rfl htr (hREC hw) dX11_holds_25 hdr (Nat.le_of_ble_eq_true rfl) (fun r25 hw => ?_)
      refine J.aload_n 0 dX11_holds_30 rfl ?_
      obtain ⟨fs31, hk31, hn31, v31, hv31, hw⟩ := hw
      refine J.getf (C := RX11) (T0 := TX11) (N := 2) 0 dX11_holds_31 hn31 hk31 rfl in_X11 (by decide) q1444 hv31 ?_
      refine J.icmp_eq 50 dX11_holds_34 (by decide) ⟨fun c34 => ?_, fun c34 => ?_⟩
      · obtain ⟨hw, -⟩ := hw
        specialize hw c34
        refine J.iincN 2 (K := (1 : Int32)) (lv' := fun y50 => [(2, .int y50), (0, .ref h), (1, .ref a1)]) dX11_holds_50 rfl (by decide) (by decide) (fun _ => rfl) hw (fun y50 hw => ?_)
        refine J.goto 2 dX11_holds_53 (by decide) ?_
        exact J.pick [1, 2, 0] rfl (ih _ hw)
      · obtain ⟨-, hw⟩ := hw
        specialize hw c34
        refine J.aload_n 0 dX11_holds_37 rfl ?_
        obtain ⟨fs38, hk38, hn38, v38, hv38, hw⟩ := hw
        refine J.getf (C := RX11) (T0 := TX11) (N := 2) 0 dX11_holds_38 hn38 hk38 rfl in_X11 (by decide) q1444 hv38 ?_
        refine J.if_ne 48 dX11_holds_41 (by decide) ⟨fun c41 => ?_, fun c41 => ?_⟩
        · obtain ⟨hw, -⟩ := hw
          specialize hw c41
          refine J.iconst (v := (0 : Int32)) dX11_holds_48 (by decide) ?_
          exact J.zret rfl rfl dX11_holds_49 ⟨rfl, _, rfl, hw⟩
        · obtain ⟨-, hw⟩ := hw
          specialize hw c41
          refine J.iconst (v := (1 : Int32)) dX11_holds_44 (by decide) ?_
          refine J.goto 49 dX11_holds_45 (by decide) ?_
          exact J.zret rfl rfl dX11_holds_49 ⟨rfl, _, rfl, hw⟩
def wX11_holds (g : List jC) (REC : Nat → Nat → (Int32 → Prop) → Prop) (h : Nat) (a1 : Nat) (Q : Int32 → Prop) : Prop :=
  (∃ f9, wX11_holds_2 g REC h a1 Q f9 (0 : Int32))
theorem mX11_holds {G : jG} {l : Launch} {d : Nat} (htr : l.stackTraces = false) (hdd : 3 ≤ d) {g : List jC} {h : Nat} {a1 : Nat} {REC : Nat → Nat → (Int32 → Prop) → Prop} {dr : Nat} (hdr : dr + 1 ≤ d) (hREC : ∀ {a s : Nat} {Q : Int32 → Prop}, REC a s Q → jHolds G l dr g a s Q) {Q : Int32 → Prop} (hw : wX11_holds g REC h a1 Q) : JM G l MX11_holds d 0 0 [.ref h, .ref a1] g (jRd g Q) jNo := by
  refine JM.intro (by decide) rfl htr (Nat.le_of_ble_eq_true rfl) ?_
  show J G l MX11_holds d 0 0 0 [(0, .ref h), (1, .ref a1)] [] g _ _
  unfold wX11_holds at hw
  refine J.iconst (v := (0 : Int32)) dX11_holds_0 (by decide) ?_
  refine J.istore_n (lv' := [(2, .int (0 : Int32)), (0, .ref h), (1, .ref a1)]) dX11_holds_1 (by decide) rfl ?_
  obtain ⟨f9, hw⟩ := hw
  exact J.pick [1, 2, 0] rfl (rX11_holds_2 htr hdd hdr hREC f9 _ hw)
theorem kfX12_13 {G : jG} {l : Launch} {M : jM} {d c n pc : Nat} {lv : List (Nat × Value)} {rest : List Value} {g : List jC} {post : Option Value → List jC → Prop} {xp : String → List jC → Prop} (hM : M.1.cls = RX12) (htr : l.stackTraces = false) {dr a s : Nat} {Q : Int32 → Prop} (hH : jHolds G l dr g a s Q) (hd : decode M.2.1 pc = .ok (.invokeinterface 13 2, 5)) (hdr : dr + 1 ≤ d) (hw8 : (rest.map fun v => v.category).sum ≤ 8) (kk : ∀ r, Q r → J G l M d c n (pc + 5) lv (.int r :: rest) g post xp) : J G l M d c n pc lv (.ref s :: .ref a :: rest) g post xp := by
  rcases hH with ⟨fs9, hn9, hk9, hm⟩ | ⟨fs9, hn9, hk9, hm⟩ | ⟨fs9, hn9, hk9, hm⟩ | ⟨fs9, hn9, hk9, hm⟩
  · exact J.callF (As := [.ref s]) (x9 := ⟨"VisitingHours$Cond", "holds", "(LVisitingHours$Scene;)Z"⟩) (C := RX11) (hcw := by rw [hM]; exact lw_Fi q600 q602 q604 q175 q606) (hfw := List.mem_of_getElem? (i := 2) rfl) hm hd rfl ⟨9, _, _, hn9, hk9, rfl, rfl⟩ ⟨by decide, by decide, by show _ = some 1; decide +kernel⟩ hw8 ⟨hdr, by decide⟩ jcc0 (fun r9 g9 h9 => by obtain ⟨rfl, r, rfl, h⟩ := h9; exact kk r h) jNo.x
  · exact J.callF (As := [.ref s]) (x9 := ⟨"VisitingHours$Cond", "holds", "(LVisitingHours$Scene;)Z"⟩) (C := RX12) (hcw := by rw [hM]; exact lw_Fi q600 q594 q596 q176 q598) (hfw := List.mem_of_getElem? (i := 1) rfl) hm hd rfl ⟨10, _, _, hn9, hk9, rfl, rfl⟩ ⟨by decide, by decide, by show _ = some 1; decide +kernel⟩ hw8 ⟨hdr, by decide⟩ jcc0 (fun r9 g9 h9 => by obtain ⟨rfl, r, rfl, h⟩ := h9; exact kk r h) jNo.x
  · exact J.callF (As := [.ref s]) (x9 := ⟨"VisitingHours$Cond", "holds", "(LVisitingHours$Scene;)Z"⟩) (C := RX13) (hcw := by rw [hM]; exact lw_Fi q600 q613 q615 q177 q617) (hfw := List.mem_of_getElem? (i := 3) rfl) hm hd rfl ⟨11, _, _, hn9, hk9, rfl, rfl⟩ ⟨by decide, by decide, by show _ = some 1; decide +kernel⟩ hw8 ⟨hdr, by decide⟩ jcc0 (fun r9 g9 h9 => by obtain ⟨rfl, r, rfl, h⟩ := h9; exact kk r h) jNo.x
  · exact J.callF (As := [.ref s]) (x9 := ⟨"VisitingHours$Cond", "holds", "(LVisitingHours$Scene;)Z"⟩) (C := RX17) (hcw := by rw [hM]; exact lw_Fi q600 q567 q569 q181 q571) (hfw := List.mem_of_getElem? (i := 0) rfl) hm hd rfl ⟨14, _, _, hn9, hk9, rfl, rfl⟩ ⟨by decide, by decide, by show _ = some 1; decide +kernel⟩ hw8 ⟨hdr, by decide⟩ jcc0 (fun r9 g9 h9 => by obtain ⟨rfl, r, rfl, h⟩ := h9; exact kk r h) jNo.x

-- VisitingHours$Not.holds(LVisitingHours$Scene;)Z
def wX12_holds (g : List jC) (REC : Nat → Nat → (Int32 → Prop) → Prop) (h : Nat) (a1 : Nat) (Q : Int32 → Prop) : Prop :=
  (∃ fs1 : List Value, g[h]? = some (.inr (10, fs1)) ∧ jn ≤ h ∧ ∃ v1 : Option Nat, fs1[0]? = some (va_rf v1) ∧ (∃ b5_1, v1 = some b5_1 ∧ (REC b5_1 a1 (fun r5 => ((¬ r5 = 0 → Q (0 : Int32)) ∧ (r5 = 0 → Q (1 : Int32)))))))
theorem mX12_holds {G : jG} {l : Launch} {d : Nat} (htr : l.stackTraces = false) (hdd : 1 ≤ d) {g : List jC} {h : Nat} {a1 : Nat} {REC : Nat → Nat → (Int32 → Prop) → Prop} {dr : Nat} (hdr : dr + 1 ≤ d) (hREC : ∀ {a s : Nat} {Q : Int32 → Prop}, REC a s Q → jHolds G l dr g a s Q) {Q : Int32 → Prop} (hw : wX12_holds g REC h a1 Q) : JM G l MX12_holds d 0 0 [.ref h, .ref a1] g (jRd g Q) jNo := by
  refine JM.intro (by decide) rfl htr (Nat.le_of_ble_eq_true rfl) ?_
  show J G l MX12_holds d 0 0 0 [(0, .ref h), (1, .ref a1)] [] g _ _
  unfold wX12_holds at hw
  refine J.aload_n 0 dX12_holds_0 rfl ?_
  obtain ⟨fs1, hk1, hn1, v1, hv1, hw⟩ := hw
  refine J.getf (C := RX12) (T0 := TX12) (N := 1) 0 dX12_holds_1 hn1 hk1 rfl in_X12 (by decide) q1475 hv1 ?_
  refine J.aload_n 1 dX12_holds_4 rfl ?_
  obtain ⟨b5_1, rfl, hw⟩ := hw
  refine kfX12_13 rfl htr (hREC hw) dX12_holds_5 hdr (Nat.le_of_ble_eq_true rfl) (fun r5 hw => ?_)
  refine J.if_ne 17 dX12_holds_10 (by decide) ⟨fun c10 => ?_, fun c10 => ?_⟩
  · obtain ⟨hw, -⟩ := hw
    specialize hw c10
    refine J.iconst (v := (0 : Int32)) dX12_holds_17 (by decide) ?_
    exact J.zret rfl rfl dX12_holds_18 ⟨rfl, _, rfl, hw⟩
  · obtain ⟨-, hw⟩ := hw
    specialize hw c10
    refine J.iconst (v := (1 : Int32)) dX12_holds_13 (by decide) ?_
    refine J.goto 18 dX12_holds_14 (by decide) ?_
    exact J.zret rfl rfl dX12_holds_18 ⟨rfl, _, rfl, hw⟩
/-- what an interface call holds(s) on a asks, and answers -/
def wHolds (g : List jC) : Nat → Nat → Nat → (Int32 → Prop) → Prop
  | 0, _, _, _ => False
  | f + 1, a, s, Q => (∃ fs : List Value, jn ≤ a ∧ g[a]? = some (.inr (9, fs)) ∧ wX11_holds g (wHolds g f) a s Q) ∨ (∃ fs : List Value, jn ≤ a ∧ g[a]? = some (.inr (10, fs)) ∧ wX12_holds g (wHolds g f) a s Q) ∨ (∃ fs : List Value, jn ≤ a ∧ g[a]? = some (.inr (11, fs)) ∧ wX13_holds g a s Q) ∨ (∃ fs : List Value, jn ≤ a ∧ g[a]? = some (.inr (14, fs)) ∧ wX17_holds g a s Q)
theorem hHolds {G : jG} {l : Launch} (htr : l.stackTraces = false) {g : List jC} : ∀ (f : Nat) {a s : Nat} {Q : Int32 → Prop}, wHolds g f a s Q → jHolds G l (8 + f) g a s Q := by
  intro f
  induction f with
  | zero => exact fun h => h.elim
  | succ f ih =>
    intro a s Q hw
    rw [wHolds] at hw
    rcases hw with ⟨fs, hn, hk, hw⟩ | ⟨fs, hn, hk, hw⟩ | ⟨fs, hn, hk, hw⟩ | ⟨fs, hn, hk, hw⟩
    · exact Or.inl ⟨fs, hn, hk, mX11_holds htr (by omega) (dr := 8 + f) (by omega) ih hw⟩
    · exact Or.inr (Or.inl ⟨fs, hn, hk, mX12_holds htr (by omega) (dr := 8 + f) (by omega) ih hw⟩)
    · exact Or.inr (Or.inr (Or.inl ⟨fs, hn, hk, mX13_holds htr (by omega) hw⟩))
    · exact Or.inr (Or.inr (Or.inr ⟨fs, hn, hk, mX17_holds htr (by omega) hw⟩))
theorem kfX10_21 {G : jG} {l : Launch} {M : jM} {d c n pc : Nat} {lv : List (Nat × Value)} {rest : List Value} {g : List jC} {post : Option Value → List jC → Prop} {xp : String → List jC → Prop} (hM : M.1.cls = RX10) (htr : l.stackTraces = false) {dr a s : Nat} {Q : Int32 → Prop} (hH : jHolds G l dr g a s Q) (hd : decode M.2.1 pc = .ok (.invokeinterface 21 2, 5)) (hdr : dr + 1 ≤ d) (hw8 : (rest.map fun v => v.category).sum ≤ 8) (kk : ∀ r, Q r → J G l M d c n (pc + 5) lv (.int r :: rest) g post xp) : J G l M d c n pc lv (.ref s :: .ref a :: rest) g post xp := by
  rcases hH with ⟨fs9, hn9, hk9, hm⟩ | ⟨fs9, hn9, hk9, hm⟩ | ⟨fs9, hn9, hk9, hm⟩ | ⟨fs9, hn9, hk9, hm⟩
  · exact J.callF (As := [.ref s]) (x9 := ⟨"VisitingHours$Cond", "holds", "(LVisitingHours$Scene;)Z"⟩) (C := RX11) (hcw := by rw [hM]; exact lw_Fi q563 q602 q604 q175 q606) (hfw := List.mem_of_getElem? (i := 2) rfl) hm hd rfl ⟨9, _, _, hn9, hk9, rfl, rfl⟩ ⟨by decide, by decide, by show _ = some 1; decide +kernel⟩ hw8 ⟨hdr, by decide⟩ jcc0 (fun r9 g9 h9 => by obtain ⟨rfl, r, rfl, h⟩ := h9; exact kk r h) jNo.x
  · exact J.callF (As := [.ref s]) (x9 := ⟨"VisitingHours$Cond", "holds", "(LVisitingHours$Scene;)Z"⟩) (C := RX12) (hcw := by rw [hM]; exact lw_Fi q563 q594 q596 q176 q598) (hfw := List.mem_of_getElem? (i := 1) rfl) hm hd rfl ⟨10, _, _, hn9, hk9, rfl, rfl⟩ ⟨by decide, by decide, by show _ = some 1; decide +kernel⟩ hw8 ⟨hdr, by decide⟩ jcc0 (fun r9 g9 h9 => by obtain ⟨rfl, r, rfl, h⟩ := h9; exact kk r h) jNo.x
  · exact J.callF (As := [.ref s]) (x9 := ⟨"VisitingHours$Cond", "holds", "(LVisitingHours$Scene;)Z"⟩) (C := RX13) (hcw := by rw [hM]; exact lw_Fi q563 q613 q615 q177 q617) (hfw := List.mem_of_getElem? (i := 3) rfl) hm hd rfl ⟨11, _, _, hn9, hk9, rfl, rfl⟩ ⟨by decide, by decide, by show _ = some 1; decide +kernel⟩ hw8 ⟨hdr, by decide⟩ jcc0 (fun r9 g9 h9 => by obtain ⟨rfl, r, rfl, h⟩ := h9; exact kk r h) jNo.x
  · exact J.callF (As := [.ref s]) (x9 := ⟨"VisitingHours$Cond", "holds", "(LVisitingHours$Scene;)Z"⟩) (C := RX17) (hcw := by rw [hM]; exact lw_Fi q563 q567 q569 q181 q571) (hfw := List.mem_of_getElem? (i := 0) rfl) hm hd rfl ⟨14, _, _, hn9, hk9, rfl, rfl⟩ ⟨by decide, by decide, by show _ = some 1; decide +kernel⟩ hw8 ⟨hdr, by decide⟩ jcc0 (fun r9 g9 h9 => by obtain ⟨rfl, r, rfl, h⟩ := h9; exact kk r h) jNo.x

-- VisitingHours$Line.holds(LVisitingHours$Scene;)Z
abbrev MX10_holds : jM := (yX10_holds, cX10_holds, 2, some .boolean, [])
def wX10_holds (g : List jC) (h : Nat) (a1 : Nat) (Q : Int32 → Prop) : Prop :=
  (∃ fs1 : List Value, g[h]? = some (.inr (8, fs1)) ∧ jn ≤ h ∧ ∃ v1 : Option Nat, fs1[2]? = some (va_rf v1) ∧ ((v1 = none → Q (1 : Int32)) ∧ (∀ b4_1, v1 = some b4_1 → (∃ fs8 : List Value, g[h]? = some (.inr (8, fs8)) ∧ jn ≤ h ∧ ∃ v8 : Option Nat, fs8[2]? = some (va_rf v8) ∧ (∃ b12_2, v8 = some b12_2 ∧ (∃ f12, f12 ≤ 30 ∧ wHolds g f12 b12_2 a1 (fun r12 => ((r12 = 0 → Q (0 : Int32)) ∧ (¬ r12 = 0 → Q (1 : Int32))))))))))
theorem mX10_holds {G : jG} {l : Launch} {d : Nat} (htr : l.stackTraces = false) (hdd : 39 ≤ d) {g : List jC} {h : Nat} {a1 : Nat} {Q : Int32 → Prop} (hw : wX10_holds g h a1 Q) : JM G l MX10_holds d 0 0 [.ref h, .ref a1] g (jRd g Q) jNo := by
  refine JM.intro (by decide) rfl htr (Nat.le_of_ble_eq_true rfl) ?_
  show J G l MX10_holds d 0 0 0 [(0, .ref h), (1, .ref a1)] [] g _ _
  unfold wX10_holds at hw
  refine J.aload_n 0 dX10_holds_0 rfl ?_
  obtain ⟨fs1, hk1, hn1, v1, hv1, hw⟩ := hw
  refine J.getf (C := RX10) (T0 := TX10) (N := 3) 2 dX10_holds_1 hn1 hk1 rfl in_X10 (by decide) q1626 hv1 ?_
  refine J.ifnullQ 20 dX10_holds_4 (by decide) (fun e9 => ?_) (fun b4_1 e9 => ?_)
  · subst e9
    obtain ⟨hw, -⟩ := hw
    specialize hw rfl
    refine J.iconst (v := (1 : Int32)) dX10_holds_20 (by decide) ?_
    refine J.goto 25 dX10_holds_21 (by decide) ?_
    exact J.zret rfl rfl dX10_holds_25 ⟨rfl, _, rfl, hw⟩
  · subst e9
    obtain ⟨-, hw⟩ := hw
    specialize hw _ rfl
    refine J.aload_n 0 dX10_holds_7 rfl ?_
    obtain ⟨fs8, hk8, hn8, v8, hv8, hw⟩ := hw
    refine J.getf (C := RX10) (T0 := TX10) (N := 3) 2 dX10_holds_8 hn8 hk8 rfl in_X10 (by decide) q1626 hv8 ?_
    refine J.aload_n 1 dX10_holds_11 rfl ?_
    obtain ⟨b12_2, rfl, hw⟩ := hw
    obtain ⟨f12, hf12, hw⟩ := hw
    refine kfX10_21 rfl htr (hHolds htr f12 hw) dX10_holds_12 (by omega) (Nat.le_of_ble_eq_true rfl) (fun r12 hw => ?_)
    refine J.if_eq 24 dX10_holds_17 (by decide) ⟨fun c17 => ?_, fun c17 => ?_⟩
    · obtain ⟨hw, -⟩ := hw
      specialize hw c17
      refine J.iconst (v := (0 : Int32)) dX10_holds_24 (by decide) ?_
      exact J.zret rfl rfl dX10_holds_25 ⟨rfl, _, rfl, hw⟩
    · obtain ⟨-, hw⟩ := hw
      specialize hw c17
      refine J.iconst (v := (1 : Int32)) dX10_holds_20 (by decide) ?_
      refine J.goto 25 dX10_holds_21 (by decide) ?_
      exact J.zret rfl rfl dX10_holds_25 ⟨rfl, _, rfl, hw⟩
theorem krX8_22 {G : jG} {l : Launch} {M : jM} {d c n pc : Nat} {lv : List (Nat × Value)} {rest : List Value} {g : List jC} {post : Option Value → List jC → Prop} {xp : String → List jC → Prop} (hM : M.1.cls = RX8) (htr : l.stackTraces = false) {h : Nat} {fs9 : List Value} (hk9 : g[h]? = some (.inr (15, fs9))) {Q : Int32 → Prop} (hd : decode M.2.1 pc = .ok (.invokevirtual 22, 3)) (hdd : 0 + 1 ≤ d) (hw8 : (rest.map fun v => v.category).sum ≤ 8) (hw : wJ2_size g h Q) (kk : ∀ r, Q r → J G l M d c n (pc + 3) lv (.int r :: rest) g post xp) : J G l M d c n pc lv (.ref h :: rest) g post xp :=
  J.callV (As := []) (hcw := by rw [hM]; exact lw_V q537 q538 q539 q150 q540) (mJ2_size htr (Nat.le_refl _) hw) hd rfl ⟨15, _, _, hk9, rfl, rfl, fun _ => rfl⟩ ⟨rfl, by decide, by decide, by show _ = some 0; decide +kernel⟩ hw8 ⟨hdd, by decide⟩ jcc0 (fun r9 g9 h9 => by obtain ⟨rfl, r, rfl, h⟩ := h9; exact kk r h) jNo.x
theorem krX8_26 {G : jG} {l : Launch} {M : jM} {d c n pc : Nat} {lv : List (Nat × Value)} {rest : List Value} {g : List jC} {post : Option Value → List jC → Prop} {xp : String → List jC → Prop} (hM : M.1.cls = RX8) (htr : l.stackTraces = false) {h : Nat} {a1 : Int32} {fs9 : List Value} (hk9 : g[h]? = some (.inr (15, fs9))) {Q : Option Nat → Prop} (hd : decode M.2.1 pc = .ok (.invokevirtual 26, 3)) (hdd : 2 + 1 ≤ d) (hw8 : (rest.map fun v => v.category).sum ≤ 8) (hw : wJ2_get g h a1 Q) (kk : ∀ r, Q r → J G l M d c n (pc + 3) lv (va_rf r :: rest) g post xp) : J G l M d c n pc lv (.int a1 :: .ref h :: rest) g post xp :=
  J.callV (As := [.int a1]) (hcw := by rw [hM]; exact lw_V q541 q542 q543 q150 q544) (mJ2_get htr (Nat.le_refl _) hw) hd rfl ⟨15, _, _, hk9, rfl, rfl, fun _ => rfl⟩ ⟨rfl, by decide, by decide, by show _ = some 1; decide +kernel⟩ hw8 ⟨hdd, by decide⟩ jcc0 (fun r9 g9 h9 => by obtain ⟨rfl, r, rfl, h⟩ := h9; exact kk r h) jNo.x
theorem krX8_41 {G : jG} {l : Launch} {M : jM} {d c n pc : Nat} {lv : List (Nat × Value)} {rest : List Value} {g : List jC} {post : Option Value → List jC → Prop} {xp : String → List jC → Prop} (hM : M.1.cls = RX8) (htr : l.stackTraces = false) {h : Nat} {a1 : Nat} {fs9 : List Value} (hk9 : g[h]? = some (.inr (8, fs9))) {Q : Int32 → Prop} (hd : decode M.2.1 pc = .ok (.invokevirtual 41, 3)) (hdd : 39 + 1 ≤ d) (hw8 : (rest.map fun v => v.category).sum ≤ 8) (hw : wX10_holds g h a1 Q) (kk : ∀ r, Q r → J G l M d c n (pc + 3) lv (.int r :: rest) g post xp) : J G l M d c n pc lv (.ref a1 :: .ref h :: rest) g post xp :=
  J.callV (As := [.ref a1]) (hcw := by rw [hM]; exact lw_V q558 q559 q560 q174 q561) (mX10_holds htr (Nat.le_refl _) hw) hd rfl ⟨8, _, _, hk9, rfl, rfl, fun _ => rfl⟩ ⟨rfl, by decide, by decide, by show _ = some 1; decide +kernel⟩ hw8 ⟨hdd, by decide⟩ jcc0 (fun r9 g9 h9 => by obtain ⟨rfl, r, rfl, h⟩ := h9; exact kk r h) jNo.x
-- VisitingHours$Law.joy(LVisitingHours$Scene;)I
abbrev MX8_joy : jM := (yX8_joy, cX8_joy, 5, some .int, [])
def wX8_joy_7 (g : List jC) (h : Nat) (a1 : Nat) (Q : Int32 → Prop) : Nat → Int32 → Int32 → Prop
  | 0, _, _ => False
  | f + 1, x2, x3 =>
    (∃ fs9 : List Value, g[h]? = some (.inr (7, fs9)) ∧ jn ≤ h ∧ ∃ v9 : Option Nat, fs9[0]? = some (va_rf v9) ∧ (∃ b12_1, v9 = some b12_1 ∧ (∃ fs12 : List Value, g[b12_1]? = some (.inr (15, fs12)) ∧ wJ2_size g b12_1 (fun r12 => ((r12 ≤ x3 → Q (if (0 : Int32) < x2 then x2 else (0 : Int32))) ∧ (¬ r12 ≤ x3 → (∃ fs19 : List Value, g[h]? = some (.inr (7, fs19)) ∧ jn ≤ h ∧ ∃ v19 : Option Nat, fs19[0]? = some (va_rf v19) ∧ (∃ b23_2, v19 = some b23_2 ∧ (∃ fs23 : List Value, g[b23_2]? = some (.inr (15, fs23)) ∧ wJ2_get g b23_2 x3 (fun r23 => (∃ b26_3, r23 = some b26_3 ∧ (∃ fs26 : List Value, g[b26_3]? = some (.inr (8, fs26)) ∧ jn ≤ b26_3 ∧ (∃ fs33 : List Value, g[b26_3]? = some (.inr (8, fs33)) ∧ jn ≤ b26_3 ∧ ∃ v33 : Option Nat, fs33[0]? = some (va_rf v33) ∧ (∃ b39_4, v33 = some b39_4 ∧ ((b39_4 = 61 → (∀ y79 : Int32, y79 = x3 + (1 : Int32) → wX8_joy_7 g h a1 Q f x2 y79)) ∧ (¬ b39_4 = 61 → (jAp b39_4 61 ∧ (∃ fs45 : List Value, g[b26_3]? = some (.inr (8, fs45)) ∧ wX10_holds g b26_3 a1 (fun r45 => ((r45 = 0 → (∀ y79 : Int32, y79 = x3 + (1 : Int32) → wX8_joy_7 g h a1 Q f x2 y79)) ∧ (¬ r45 = 0 → (∃ fs54 : List Value, g[b26_3]? = some (.inr (8, fs54)) ∧ jn ≤ b26_3 ∧ ∃ v54 : Option Nat, fs54[0]? = some (va_rf v54) ∧ (∃ b60_5, v54 = some b60_5 ∧ ((b60_5 = 59 → (∃ fs65 : List Value, g[b26_3]? = some (.inr (8, fs65)) ∧ jn ≤ b26_3 ∧ ∃ v65 : Int32, fs65[1]? = some (.int v65) ∧ (∀ y78 : Int32, y78 = (x2 + v65) → (∀ y79 : Int32, y79 = x3 + (1 : Int32) → wX8_joy_7 g h a1 Q f y78 y79)))) ∧ (¬ b60_5 = 59 → (jAp b60_5 59 ∧ (∃ fs73 : List Value, g[b26_3]? = some (.inr (8, fs73)) ∧ jn ≤ b26_3 ∧ ∃ v73 : Int32, fs73[1]? = some (.int v73) ∧ (∀ y78 : Int32, y78 = (x2 + (-v73)) → (∀ y79 : Int32, y79 = x3 + (1 : Int32) → wX8_joy_7 g h a1 Q f y78 y79)))))))))))))))))))))))))))))
theorem rX8_joy_7 {G : jG} {l : Launch} {d : Nat} {c n : Nat} (htr : l.stackTraces = false) (hdd : 40 ≤ d) {g : List jC} {h : Nat} {a1 : Nat} {Q : Int32 → Prop} : ∀ (f : Nat) (x2 : Int32) (x3 : Int32), wX8_joy_7 g h a1 Q f x2 x3 → J G l MX8_joy d c n 7 [(0, .ref h), (1, .ref a1), (2, .int x2), (3, .int x3)] [] g (jRd g Q) jNo := by
  intro f
  induction f with
  | zero =>
    intro x2 x3 hw
    rw [wX8_joy_7] at hw
    exact hw.elim
  | succ f ih =>
    intro x2 x3 hw
    rw [wX8_joy_7] at hw
    refine J.iload_n 3 dX8_joy_7 rfl ?_
    refine J.aload_n 0 dX8_joy_8 rfl ?_
    obtain ⟨fs9, hk9, hn9, v9, hv9, hw⟩ := hw
    refine J.getf (C := RX8) (T0 := TX8) (N := 1) 0 dX8_joy_9 hn9 hk9 rfl in_X8 (by decide) q1404 hv9 ?_
    obtain ⟨b12_1, rfl, hw⟩ := hw
    obtain ⟨fs12, hk12, hw⟩ := hw
    refine krX8_22 rfl htr hk12 dX8_joy_12 (by omega) (Nat.le_of_ble_eq_true rfl) hw (fun r12 hw => ?_)
    refine J.icmp_ge 85 dX8_joy_15 (by decide) ⟨fun c15 => ?_, fun c15 => ?_⟩
    · obtain ⟨hw, -⟩ := hw
      specialize hw c15
      refine J.iconst (v := (0 : Int32)) dX8_joy_85 (by decide) ?_
      refine J.iload_n 2 dX8_joy_86 rfl ?_
      refine J.mmax dX8_joy_87 q628 q629 q159 q630 (Nat.le_of_ble_eq_true rfl) (by omega) ?_
      exact J.iret rfl dX8_joy_90 ⟨rfl, _, rfl, hw⟩
    · obtain ⟨-, hw⟩ := hw
      specialize hw c15
      refine J.aload_n 0 dX8_joy_18 rfl ?_
      obtain ⟨fs19, hk19, hn19, v19, hv19, hw⟩ := hw
      refine J.getf (C := RX8) (T0 := TX8) (N := 1) 0 dX8_joy_19 hn19 hk19 rfl in_X8 (by decide) q1404 hv19 ?_
      refine J.iload_n 3 dX8_joy_22 rfl ?_
      obtain ⟨b23_2, rfl, hw⟩ := hw
      obtain ⟨fs23, hk23, hw⟩ := hw
      refine krX8_26 rfl htr hk23 dX8_joy_23 (by omega) (Nat.le_of_ble_eq_true rfl) hw (fun r23 hw => ?_)
      obtain ⟨b26_3, rfl, hw⟩ := hw
      obtain ⟨fs26, hk26, hn26, hw⟩ := hw
      refine J.castS dX8_joy_26 hn26 hk26 rfl q555 ?_
      refine J.astore (lv' := [(4, .ref b26_3), (0, .ref h), (1, .ref a1), (2, .int x2), (3, .int x3)]) dX8_joy_29 (by decide) rfl ?_
      refine J.aload 0 dX8_joy_31 rfl ?_
      obtain ⟨fs33, hk33, hn33, v33, hv33, hw⟩ := hw
      refine J.getfN (C := RX10) (T0 := TX10) (N := 3) 0 dX8_joy_33 hn33 hk33 rfl in_X10 (by decide) nw1623 hv33 ?_
      refine J.gets (q := ("VisitingHours$Kind", "ADMIT", "LVisitingHours$Kind;", .ref 61)) dX8_joy_36 (List.mem_of_getElem? (i := 0) rfl) q556 (by show _ < jn; decide) ?_
      obtain ⟨b39_4, rfl, hw⟩ := hw
      by_cases c39 : b39_4 = 61
      · obtain ⟨hw, -⟩ := hw
        specialize hw c39
        refine J.acmpE (tgt := 79) dX8_joy_39 (by decide) c39 ?_
        refine J.iincN 4 (K := (1 : Int32)) (lv' := fun y79 => [(3, .int y79), (4, .ref b26_3), (0, .ref h), (1, .ref a1), (2, .int x2)]) dX8_joy_79 rfl (by decide) (by decide) (fun _ => rfl) hw (fun y79 hw => ?_)
        refine J.goto 7 dX8_joy_82 (by decide) ?_
        exact J.pick [2, 3, 4, 0] rfl (ih _ _ hw)
      · obtain ⟨-, hw⟩ := hw
        specialize hw c39
        obtain ⟨h39, hw⟩ := hw
        refine J.acmpD (tgt := 79) dX8_joy_39 (by decide) h39 ?_
        refine J.aload 0 dX8_joy_42 rfl ?_
        refine J.aload_n 2 dX8_joy_44 rfl ?_
        obtain ⟨fs45, hk45, hw⟩ := hw
        refine krX8_41 rfl htr hk45 dX8_joy_45 (by omega) (Nat.le_of_ble_eq_true rfl) hw (fun r45 hw => ?_)
        refine J.if_eq 79 dX8_joy_48 (by decide) ⟨fun c48 => ?_, fun c48 => ?_⟩
        · obtain ⟨hw, -⟩ := hw
          specialize hw c48
          refine J.iincN 4 (K := (1 : Int32)) (lv' := fun y79 => [(3, .int y79), (4, .ref b26_3), (0, .ref h), (1, .ref a1), (2, .int x2)]) dX8_joy_79 rfl (by decide) (by decide) (fun _ => rfl) hw (fun y79 hw => ?_)
          refine J.goto 7 dX8_joy_82 (by decide) ?_
          exact J.pick [2, 3, 4, 0] rfl (ih _ _ hw)
        · obtain ⟨-, hw⟩ := hw
          specialize hw c48
          refine J.iload_n 3 dX8_joy_51 rfl ?_
          refine J.aload 0 dX8_joy_52 rfl ?_
          obtain ⟨fs54, hk54, hn54, v54, hv54, hw⟩ := hw
          refine J.getfN (C := RX10) (T0 := TX10) (N := 3) 0 dX8_joy_54 hn54 hk54 rfl in_X10 (by decide) nw1623 hv54 ?_
          refine J.gets (q := ("VisitingHours$Kind", "GLAD", "LVisitingHours$Kind;", .ref 59)) dX8_joy_57 (List.mem_of_getElem? (i := 1) rfl) q626 (by show _ < jn; decide) ?_
          obtain ⟨b60_5, rfl, hw⟩ := hw
          by_cases c60 : b60_5 = 59
          · obtain ⟨hw, -⟩ := hw
            specialize hw c60
            refine J.acnpE (tgt := 71) dX8_joy_60 (by decide) c60 ?_
            refine J.aload 0 dX8_joy_63 rfl ?_
            obtain ⟨fs65, hk65, hn65, v65, hv65, hw⟩ := hw
            refine J.getfN (C := RX10) (T0 := TX10) (N := 3) 1 dX8_joy_65 hn65 hk65 rfl in_X10 (by decide) nw1625 hv65 ?_
            refine J.goto 77 dX8_joy_68 (by decide) ?_
            refine J.iadd dX8_joy_77 ?_
            refine J.nm hw (fun y78 hw => ?_)
            refine J.istore_n (lv' := [(2, .int y78), (4, .ref b26_3), (0, .ref h), (1, .ref a1), (3, .int x3)]) dX8_joy_78 (by decide) rfl ?_
            refine J.iincN 4 (K := (1 : Int32)) (lv' := fun y79 => [(3, .int y79), (2, .int y78), (4, .ref b26_3), (0, .ref h), (1, .ref a1)]) dX8_joy_79 rfl (by decide) (by decide) (fun _ => rfl) hw (fun y79 hw => ?_)
            refine J.goto 7 dX8_joy_82 (by decide) ?_
            exact J.pick [3, 4, 1, 0] rfl (ih _ _ hw)
          · obtain ⟨-, hw⟩ := hw
            specialize hw c60
            obtain ⟨h60, hw⟩ := hw
            refine J.acnpD (tgt := 71) dX8_joy_60 (by decide) h60 ?_
            refine J.aload 0 dX8_joy_71 rfl ?_
            obtain ⟨fs73, hk73, hn73, v73, hv73, hw⟩ := hw
            refine J.getfN (C := RX10) (T0 := TX10) (N := 3) 1 dX8_joy_73 hn73 hk73 rfl in_X10 (by decide) nw1625 hv73 ?_
            refine J.ineg dX8_joy_76 ?_
            refine J.iadd dX8_joy_77 ?_
            refine J.nm hw (fun y78 hw => ?_)
            refine J.istore_n (lv' := [(2, .int y78), (4, .ref b26_3), (0, .ref h), (1, .ref a1), (3, .int x3)]) dX8_joy_78 (by decide) rfl ?_
            refine J.iincN 4 (K := (1 : Int32)) (lv' := fun y79 => [(3, .int y79), (2, .int y78), (4, .ref b26_3), (0, .ref h), (1, .ref a1)]) dX8_joy_79 rfl (by decide) (by decide) (fun _ => rfl) hw (fun y79 hw => ?_)
            refine J.goto 7 dX8_joy_82 (by decide) ?_
            exact J.pick [3, 4, 1, 0] rfl (ih _ _ hw)
def wX8_joy (g : List jC) (h : Nat) (a1 : Nat) (Q : Int32 → Prop) : Prop :=
  (∃ fs1 : List Value, g[a1]? = some (.inr (3, fs1)) ∧ jn ≤ a1 ∧ ∃ v1 : Int32, fs1[4]? = some (.int v1) ∧ (∃ f9, wX8_joy_7 g h a1 Q f9 v1 (0 : Int32)))
theorem mX8_joy {G : jG} {l : Launch} {d : Nat} (htr : l.stackTraces = false) (hdd : 40 ≤ d) {g : List jC} {h : Nat} {a1 : Nat} {Q : Int32 → Prop} (hw : wX8_joy g h a1 Q) : JM G l MX8_joy d 0 0 [.ref h, .ref a1] g (jRd g Q) jNo := by
  refine JM.intro (by decide) rfl htr (Nat.le_of_ble_eq_true rfl) ?_
  show J G l MX8_joy d 0 0 0 [(0, .ref h), (1, .ref a1)] [] g _ _
  unfold wX8_joy at hw
  refine J.aload_n 1 dX8_joy_0 rfl ?_
  obtain ⟨fs1, hk1, hn1, v1, hv1, hw⟩ := hw
  refine J.getfN (C := RX4) (T0 := TX4) (N := 9) 4 dX8_joy_1 hn1 hk1 rfl in_X4 (by decide) nw345 hv1 ?_
  refine J.istore_n (lv' := [(2, .int v1), (0, .ref h), (1, .ref a1)]) dX8_joy_4 (by decide) rfl ?_
  refine J.iconst (v := (0 : Int32)) dX8_joy_5 (by decide) ?_
  refine J.istore_n (lv' := [(3, .int (0 : Int32)), (2, .int v1), (0, .ref h), (1, .ref a1)]) dX8_joy_6 (by decide) rfl ?_
  obtain ⟨f9, hw⟩ := hw
  exact J.pick [2, 3, 1, 0] rfl (rX8_joy_7 htr hdd f9 _ _ hw)
-- VisitingHours$Law.admits(LVisitingHours$Scene;)Z
abbrev MX8_admits : jM := (yX8_admits, cX8_admits, 5, some .boolean, [])
def wX8_admits_4 (g : List jC) (h : Nat) (a1 : Nat) (Q : Int32 → Prop) : Nat → Int32 → Int32 → Prop
  | 0, _, _ => False
  | f + 1, x2, x3 =>
    (∃ fs6 : List Value, g[h]? = some (.inr (7, fs6)) ∧ jn ≤ h ∧ ∃ v6 : Option Nat, fs6[0]? = some (va_rf v6) ∧ (∃ b9_1, v6 = some b9_1 ∧ (∃ fs9 : List Value, g[b9_1]? = some (.inr (15, fs9)) ∧ wJ2_size g b9_1 (fun r9 => ((r9 ≤ x3 → ((¬ x2 = 0 → Q (0 : Int32)) ∧ (x2 = 0 → (∃ fs66 : List Value, g[a1]? = some (.inr (3, fs66)) ∧ jn ≤ a1 ∧ ∃ v66 : Int32, fs66[7]? = some (.int v66) ∧ ((v66 = 0 → Q (0 : Int32)) ∧ (¬ v66 = 0 → Q (1 : Int32))))))) ∧ (¬ r9 ≤ x3 → (∃ fs16 : List Value, g[h]? = some (.inr (7, fs16)) ∧ jn ≤ h ∧ ∃ v16 : Option Nat, fs16[0]? = some (va_rf v16) ∧ (∃ b20_2, v16 = some b20_2 ∧ (∃ fs20 : List Value, g[b20_2]? = some (.inr (15, fs20)) ∧ wJ2_get g b20_2 x3 (fun r20 => (∃ b23_3, r20 = some b23_3 ∧ (∃ fs23 : List Value, g[b23_3]? = some (.inr (8, fs23)) ∧ jn ≤ b23_3 ∧ (∃ fs30 : List Value, g[b23_3]? = some (.inr (8, fs30)) ∧ jn ≤ b23_3 ∧ ∃ v30 : Option Nat, fs30[0]? = some (va_rf v30) ∧ (∃ b36_4, v30 = some b36_4 ∧ ((b36_4 = 61 → (∃ fs45 : List Value, g[b23_3]? = some (.inr (8, fs45)) ∧ wX10_holds g b23_3 a1 (fun r45 => ((r45 = 0 → (∀ y55 : Int32, y55 = x3 + (1 : Int32) → wX8_admits_4 g h a1 Q f (1 : Int32) y55)) ∧ (¬ r45 = 0 → Q (1 : Int32)))))) ∧ (¬ b36_4 = 61 → (jAp b36_4 61 ∧ (∀ y55 : Int32, y55 = x3 + (1 : Int32) → wX8_admits_4 g h a1 Q f x2 y55))))))))))))))))))
theorem rX8_admits_4 {G : jG} {l : Launch} {d : Nat} {c n : Nat} (htr : l.stackTraces = false) (hdd : 40 ≤ d) {g : List jC} {h : Nat} {a1 : Nat} {Q : Int32 → Prop} : ∀ (f : Nat) (x2 : Int32) (x3 : Int32), wX8_admits_4 g h a1 Q f x2 x3 → J G l MX8_admits d c n 4 [(0, .ref h), (1, .ref a1), (2, .int x2), (3, .int x3)] [] g (jRd g Q) jNo := by
  intro f
  induction f with
  | zero =>
    intro x2 x3 hw
    rw [wX8_admits_4] at hw
    exact hw.elim
  | succ f ih =>
    intro x2 x3 hw
    rw [wX8_admits_4] at hw
    refine J.iload_n 3 dX8_admits_4 rfl ?_
    refine J.aload_n 0 dX8_admits_5 rfl ?_
    obtain ⟨fs6, hk6, hn6, v6, hv6, hw⟩ := hw
    refine J.getf (C := RX8) (T0 := TX8) (N := 1) 0 dX8_admits_6 hn6 hk6 rfl in_X8 (by decide) q1404 hv6 ?_
    obtain ⟨b9_1, rfl, hw⟩ := hw
    obtain ⟨fs9, hk9, hw⟩ := hw
    refine krX8_22 rfl htr hk9 dX8_admits_9 (by omega) (Nat.le_of_ble_eq_true rfl) hw (fun r9 hw => ?_)
    refine J.icmp_ge 61 dX8_admits_12 (by decide) ⟨fun c12 => ?_, fun c12 => ?_⟩
    · obtain ⟨hw, -⟩ := hw
      specialize hw c12
      refine J.iload_n 2 dX8_admits_61 rfl ?_
      refine J.if_ne 76 dX8_admits_62 (by decide) ⟨fun c62 => ?_, fun c62 => ?_⟩
      · obtain ⟨hw, -⟩ := hw
        specialize hw c62
        refine J.iconst (v := (0 : Int32)) dX8_admits_76 (by decide) ?_
        exact J.zret rfl rfl dX8_admits_77 ⟨rfl, _, rfl, hw⟩
      · obtain ⟨-, hw⟩ := hw
        specialize hw c62
        refine J.aload_n 1 dX8_admits_65 rfl ?_
        obtain ⟨fs66, hk66, hn66, v66, hv66, hw⟩ := hw
        refine J.getfN (C := RX4) (T0 := TX4) (N := 9) 7 dX8_admits_66 hn66 hk66 rfl in_X4 (by decide) nw353 hv66 ?_
        refine J.if_eq 76 dX8_admits_69 (by decide) ⟨fun c69 => ?_, fun c69 => ?_⟩
        · obtain ⟨hw, -⟩ := hw
          specialize hw c69
          refine J.iconst (v := (0 : Int32)) dX8_admits_76 (by decide) ?_
          exact J.zret rfl rfl dX8_admits_77 ⟨rfl, _, rfl, hw⟩
        · obtain ⟨-, hw⟩ := hw
          specialize hw c69
          refine J.iconst (v := (1 : Int32)) dX8_admits_72 (by decide) ?_
          refine J.goto 77 dX8_admits_73 (by decide) ?_
          exact J.zret rfl rfl dX8_admits_77 ⟨rfl, _, rfl, hw⟩
    · obtain ⟨-, hw⟩ := hw
      specialize hw c12
      refine J.aload_n 0 dX8_admits_15 rfl ?_
      obtain ⟨fs16, hk16, hn16, v16, hv16, hw⟩ := hw
      refine J.getf (C := RX8) (T0 := TX8) (N := 1) 0 dX8_admits_16 hn16 hk16 rfl in_X8 (by decide) q1404 hv16 ?_
      refine J.iload_n 3 dX8_admits_19 rfl ?_
      obtain ⟨b20_2, rfl, hw⟩ := hw
      obtain ⟨fs20, hk20, hw⟩ := hw
      refine krX8_26 rfl htr hk20 dX8_admits_20 (by omega) (Nat.le_of_ble_eq_true rfl) hw (fun r20 hw => ?_)
      obtain ⟨b23_3, rfl, hw⟩ := hw
      obtain ⟨fs23, hk23, hn23, hw⟩ := hw
      refine J.castS dX8_admits_23 hn23 hk23 rfl q555 ?_
      refine J.astore (lv' := [(4, .ref b23_3), (0, .ref h), (1, .ref a1), (2, .int x2), (3, .int x3)]) dX8_admits_26 (by decide) rfl ?_
      refine J.aload 0 dX8_admits_28 rfl ?_
      obtain ⟨fs30, hk30, hn30, v30, hv30, hw⟩ := hw
      refine J.getfN (C := RX10) (T0 := TX10) (N := 3) 0 dX8_admits_30 hn30 hk30 rfl in_X10 (by decide) nw1623 hv30 ?_
      refine J.gets (q := ("VisitingHours$Kind", "ADMIT", "LVisitingHours$Kind;", .ref 61)) dX8_admits_33 (List.mem_of_getElem? (i := 0) rfl) q556 (by show _ < jn; decide) ?_
      obtain ⟨b36_4, rfl, hw⟩ := hw
      by_cases c36 : b36_4 = 61
      · obtain ⟨hw, -⟩ := hw
        specialize hw c36
        refine J.acmpE (tgt := 42) dX8_admits_36 (by decide) c36 ?_
        refine J.aload 0 dX8_admits_42 rfl ?_
        refine J.aload_n 2 dX8_admits_44 rfl ?_
        obtain ⟨fs45, hk45, hw⟩ := hw
        refine krX8_41 rfl htr hk45 dX8_admits_45 (by omega) (Nat.le_of_ble_eq_true rfl) hw (fun r45 hw => ?_)
        refine J.if_eq 53 dX8_admits_48 (by decide) ⟨fun c48 => ?_, fun c48 => ?_⟩
        · obtain ⟨hw, -⟩ := hw
          specialize hw c48
          refine J.iconst (v := (1 : Int32)) dX8_admits_53 (by decide) ?_
          refine J.istore_n (lv' := [(2, .int (1 : Int32)), (4, .ref b23_3), (0, .ref h), (1, .ref a1), (3, .int x3)]) dX8_admits_54 (by decide) rfl ?_
          refine J.iincN 4 (K := (1 : Int32)) (lv' := fun y55 => [(3, .int y55), (2, .int (1 : Int32)), (4, .ref b23_3), (0, .ref h), (1, .ref a1)]) dX8_admits_55 rfl (by decide) (by decide) (fun _ => rfl) hw (fun y55 hw => ?_)
          refine J.goto 4 dX8_admits_58 (by decide) ?_
          exact J.pick [3, 4, 1, 0] rfl (ih _ _ hw)
        · obtain ⟨-, hw⟩ := hw
          specialize hw c48
          refine J.iconst (v := (1 : Int32)) dX8_admits_51 (by decide) ?_
          exact J.zret rfl rfl dX8_admits_52 ⟨rfl, _, rfl, hw⟩
      · obtain ⟨-, hw⟩ := hw
        specialize hw c36
        obtain ⟨h36, hw⟩ := hw
        refine J.acmpD (tgt := 42) dX8_admits_36 (by decide) h36 ?_
        refine J.goto 55 dX8_admits_39 (by decide) ?_
        refine J.iincN 4 (K := (1 : Int32)) (lv' := fun y55 => [(3, .int y55), (4, .ref b23_3), (0, .ref h), (1, .ref a1), (2, .int x2)]) dX8_admits_55 rfl (by decide) (by decide) (fun _ => rfl) hw (fun y55 hw => ?_)
        refine J.goto 4 dX8_admits_58 (by decide) ?_
        exact J.pick [2, 3, 4, 0] rfl (ih _ _ hw)
def wX8_admits (g : List jC) (h : Nat) (a1 : Nat) (Q : Int32 → Prop) : Prop :=
  (∃ f9, wX8_admits_4 g h a1 Q f9 (0 : Int32) (0 : Int32))
theorem mX8_admits {G : jG} {l : Launch} {d : Nat} (htr : l.stackTraces = false) (hdd : 40 ≤ d) {g : List jC} {h : Nat} {a1 : Nat} {Q : Int32 → Prop} (hw : wX8_admits g h a1 Q) : JM G l MX8_admits d 0 0 [.ref h, .ref a1] g (jRd g Q) jNo := by
  refine JM.intro (by decide) rfl htr (Nat.le_of_ble_eq_true rfl) ?_
  show J G l MX8_admits d 0 0 0 [(0, .ref h), (1, .ref a1)] [] g _ _
  unfold wX8_admits at hw
  refine J.iconst (v := (0 : Int32)) dX8_admits_0 (by decide) ?_
  refine J.istore_n (lv' := [(2, .int (0 : Int32)), (0, .ref h), (1, .ref a1)]) dX8_admits_1 (by decide) rfl ?_
  refine J.iconst (v := (0 : Int32)) dX8_admits_2 (by decide) ?_
  refine J.istore_n (lv' := [(3, .int (0 : Int32)), (2, .int (0 : Int32)), (0, .ref h), (1, .ref a1)]) dX8_admits_3 (by decide) rfl ?_
  obtain ⟨f9, hw⟩ := hw
  exact J.pick [2, 3, 1, 0] rfl (rX8_admits_4 htr hdd f9 _ _ hw)
