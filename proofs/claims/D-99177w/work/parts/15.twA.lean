def shX6 : List jH := [
  .inl (5, [(0, 0), (2, 1), (2, 2), (0, 0), (2, 3), (2, 4), (0, 0), (2, 5), (0, 0), (0, 0), (0, 0), (0, 0), (0, 0), (0, 0), (2, 6), (0, 0), (0, 0), (0, 0), (0, 0), (0, 0), (0, 0), (2, 7), (2, 8), (2, 9), (2, 10), (2, 11), (2, 12), (2, 13)]),
  .inr (.inl (0, 1019)),
  .inr (.inl (0, 1019)),
  .inr (.inl (0, 619)),
  .inr (.inl (0, 7428)),
  .inr (.inl (0, 400)),
  .inr (.inl (0, 7)),
  .inr (.inl (0, 8)),
  .inr (.inl (0, 8)),
  .inr (.inl (0, 8)),
  .inr (.inl (0, 256)),
  .inr (.inl (0, 2304)),
  .inr (.inl (2, 4096)),
  .inr (.inl (2, 2304))]
-- VisitingHoursModel.isIn(III)Z
abbrev MX6_isIn : jM := (yX6_isIn, cX6_isIn, 3, some .boolean, [])
def wX6_isIn (a1 : Int32) (a2 : Int32) (a3 : Int32) (Q : Int32 → Prop) : Prop :=
  ((a1 < a2 → Q (0 : Int32)) ∧ (¬ a1 < a2 → ((a3 < a1 → Q (0 : Int32)) ∧ (¬ a3 < a1 → Q (1 : Int32)))))
theorem mX6_isIn {G : jG} {l : Launch} (htr : l.stackTraces = false) {sh : List jH} {V : Nat → Nat → Int32} {R : Nat → Nat → Option Nat} {a1 : Int32} {a2 : Int32} {a3 : Int32} {Q : Int32 → Prop} (hw : wX6_isIn a1 a2 a3 Q) : JM G l MX6_isIn 0 0 0 [.int a1, .int a2, .int a3] (mk sh V R) (jRd (mk sh V R) Q) jNo := by
  refine JM.intro (by decide) rfl htr (Nat.le_of_ble_eq_true rfl) ?_
  show J G l MX6_isIn 0 0 0 0 [(0, .int a1), (1, .int a2), (2, .int a3)] [] (mk sh V R) _ _
  unfold wX6_isIn at hw
  refine J.iload_n 0 dX6_isIn_0 rfl ?_
  refine J.iload_n 1 dX6_isIn_1 rfl ?_
  refine J.icmp_lt 14 dX6_isIn_2 (by decide) ⟨fun c2 => ?_, fun c2 => ?_⟩
  · have hw := hw.1 c2
    refine J.iconst (v := (0 : Int32)) dX6_isIn_14 (by decide) ?_
    exact J.zret rfl rfl dX6_isIn_15 ⟨rfl, _, rfl, hw⟩
  · have hw := hw.2 c2
    refine J.iload_n 0 dX6_isIn_5 rfl ?_
    refine J.iload_n 2 dX6_isIn_6 rfl ?_
    refine J.icmp_gt 14 dX6_isIn_7 (by decide) ⟨fun c7 => ?_, fun c7 => ?_⟩
    · have hw := hw.1 c7
      refine J.iconst (v := (0 : Int32)) dX6_isIn_14 (by decide) ?_
      exact J.zret rfl rfl dX6_isIn_15 ⟨rfl, _, rfl, hw⟩
    · have hw := hw.2 c7
      refine J.iconst (v := (1 : Int32)) dX6_isIn_10 (by decide) ?_
      refine J.goto 15 dX6_isIn_11 (by decide) ?_
      exact J.zret rfl rfl dX6_isIn_15 ⟨rfl, _, rfl, hw⟩
theorem kX6_57 {G : jG} {l : Launch} {M : jM} {d c n pc : Nat} {lv : List (Nat × Value)} {rest : List Value} {post : Option Value → List jC → Prop} {xp : String → List jC → Prop} (hM : M.1.cls = RX6) (htr : l.stackTraces = false) {sh : List jH} {V : Nat → Nat → Int32} {R : Nat → Nat → Option Nat} {a1 : Int32} {a2 : Int32} {a3 : Int32} {Q : Int32 → Prop} (hd : decode M.2.1 pc = .ok (.invokestatic 57, 3)) (hdd : 0 + 1 ≤ d) (hw8 : (rest.map fun v => v.category).sum ≤ 8) (hw : wX6_isIn a1 a2 a3 Q) (kk : ∀ r, Q r → J G l M d c n (pc + 3) lv (.int r :: rest) (mk sh V R) post xp) : J G l M d c n pc lv (.int a3 :: .int a2 :: .int a1 :: rest) (mk sh V R) post xp :=
  J.callS (As := [.int a1, .int a2, .int a3]) (hcw := by rw [hM]; exact lw_S q2226 q2227 q152 q2228) (mX6_isIn htr hw) hd rfl ⟨by decide, by decide, by show _ = some 3; decide +kernel⟩ hw8 ⟨hdd, by decide⟩ jcc0 (fun r9 g9 h9 => by obtain ⟨rfl, r, rfl, h⟩ := h9; exact kk r h) jNo.x
-- VisitingHoursModel.isQuarter(I)Z
abbrev MX6_isQuarter : jM := (yX6_isQuarter, cX6_isQuarter, 1, some .boolean, [])
def wX6_isQuarter (a1 : Int32) (Q : Int32 → Prop) : Prop :=
  wX6_isIn a1 (0 : Int32) (7 : Int32) (fun r4 => (jz r4 ∧ Q r4))
theorem mX6_isQuarter {G : jG} {l : Launch} (htr : l.stackTraces = false) {sh : List jH} {V : Nat → Nat → Int32} {R : Nat → Nat → Option Nat} {a1 : Int32} {Q : Int32 → Prop} (hw : wX6_isQuarter a1 Q) : JM G l MX6_isQuarter 1 0 0 [.int a1] (mk sh V R) (jRd (mk sh V R) Q) jNo := by
  refine JM.intro (by decide) rfl htr (Nat.le_of_ble_eq_true rfl) ?_
  show J G l MX6_isQuarter 1 0 0 0 [(0, .int a1)] [] (mk sh V R) _ _
  unfold wX6_isQuarter at hw
  refine J.iload_n 0 dX6_isQuarter_0 rfl ?_
  refine J.iconst (v := (0 : Int32)) dX6_isQuarter_1 (by decide) ?_
  refine J.bipush (v := (7 : Int32)) dX6_isQuarter_2 (by decide) ?_
  refine kX6_57 rfl htr dX6_isQuarter_4 (by omega) (Nat.le_of_ble_eq_true rfl) hw (fun r4 hw => ?_)
  exact J.zret rfl (jz_nar hw.1) dX6_isQuarter_7 ⟨rfl, _, rfl, hw.2⟩
theorem gX6_7 {G : jG} {l : Launch} {M : jM} {d c n pc : Nat} {lv : List (Nat × Value)} {st : List Value} {sh : List jH} {V : Nat → Nat → Int32} {R : Nat → Nat → Option Nat} {post : Option Value → List jC → Prop} {xp : String → List jC → Prop} {t : Nat} (hM : M.1.cls = RX6) (hT : jReg shX6 sh t) (hd : decode M.2.1 pc = .ok (.getfield 7, 3)) (kk : J G l M d c n (pc + 3) lv (.ref (t + 1) :: st) (mk sh V R) post xp) : J G l M d c n pc lv (.ref t :: st) (mk sh V R) post xp := JV.getf (C := RX6) (T0 := TX6) (N := 28) 1 hd hT.1 (hT.at 0 rfl) rfl in_X6 (by decide) (by rw [hM]; exact q2129) rfl rfl kk
-- VisitingHoursModel.isHost(I)Z
abbrev MX6_isHost : jM := (yX6_isHost, cX6_isHost, 2, some .boolean, [])
def wX6_isHost (t : Nat) (V : Nat → Nat → Int32) (a1 : Int32) (Q : Int32 → Prop) : Prop :=
  wX6_isIn a1 (0 : Int32) ((V (t + 1) 3) - (1 : Int32)) (fun r10 => (jz r10 ∧ Q r10))
theorem mX6_isHost {G : jG} {l : Launch} (htr : l.stackTraces = false) {sh : List jH} {V : Nat → Nat → Int32} {R : Nat → Nat → Option Nat} {t : Nat} (hT : jReg shX6 sh t) {a1 : Int32} {Q : Int32 → Prop} (hw : wX6_isHost t V a1 Q) : JM G l MX6_isHost 1 0 0 [.ref t, .int a1] (mk sh V R) (jRd (mk sh V R) Q) jNo := by
  refine JM.intro (by decide) rfl htr (Nat.le_of_ble_eq_true rfl) ?_
  show J G l MX6_isHost 1 0 0 0 [(0, .ref t), (1, .int a1)] [] (mk sh V R) _ _
  unfold wX6_isHost at hw
  refine J.iload_n 1 dX6_isHost_0 rfl ?_
  refine J.iconst (v := (0 : Int32)) dX6_isHost_1 (by decide) ?_
  refine J.aload_n 0 dX6_isHost_2 rfl ?_
  refine gX6_7 rfl hT dX6_isHost_3 ?_
  refine J.iconst (v := (3 : Int32)) dX6_isHost_6 (by decide) ?_
  refine JV.ialdK 3 dX6_isHost_7 (hT.ge 1) (hT.at 1 rfl) rfl (by decide) (by decide) ?_
  refine J.iconst (v := (1 : Int32)) dX6_isHost_8 (by decide) ?_
  refine J.isub dX6_isHost_9 ?_
  refine kX6_57 rfl htr dX6_isHost_10 (by omega) (Nat.le_of_ble_eq_true rfl) hw (fun r10 hw => ?_)
  exact J.zret rfl (jz_nar hw.1) dX6_isHost_13 ⟨rfl, _, rfl, hw.2⟩
-- VisitingHoursModel.isOf(II)Z
abbrev MX6_isOf : jM := (yX6_isOf, cX6_isOf, 2, some .boolean, [])
def wX6_isOf (a1 : Int32) (a2 : Int32) (Q : Int32 → Prop) : Prop :=
  ((¬ ((a1 >>> (a2 &&& 31)) &&& (1 : Int32)) = (1 : Int32) → Q (0 : Int32)) ∧ (((a1 >>> (a2 &&& 31)) &&& (1 : Int32)) = (1 : Int32) → Q (1 : Int32)))
theorem mX6_isOf {G : jG} {l : Launch} (htr : l.stackTraces = false) {sh : List jH} {V : Nat → Nat → Int32} {R : Nat → Nat → Option Nat} {a1 : Int32} {a2 : Int32} {Q : Int32 → Prop} (hw : wX6_isOf a1 a2 Q) : JM G l MX6_isOf 0 0 0 [.int a1, .int a2] (mk sh V R) (jRd (mk sh V R) Q) jNo := by
  refine JM.intro (by decide) rfl htr (Nat.le_of_ble_eq_true rfl) ?_
  show J G l MX6_isOf 0 0 0 0 [(0, .int a1), (1, .int a2)] [] (mk sh V R) _ _
  unfold wX6_isOf at hw
  refine J.iload_n 0 dX6_isOf_0 rfl ?_
  refine J.iload_n 1 dX6_isOf_1 rfl ?_
  refine J.ishr dX6_isOf_2 ?_
  refine J.iconst (v := (1 : Int32)) dX6_isOf_3 (by decide) ?_
  refine J.iand dX6_isOf_4 ?_
  refine J.iconst (v := (1 : Int32)) dX6_isOf_5 (by decide) ?_
  refine J.icmp_ne 13 dX6_isOf_6 (by decide) ⟨fun c6 => ?_, fun c6 => ?_⟩
  · have hw := hw.1 c6
    refine J.iconst (v := (0 : Int32)) dX6_isOf_13 (by decide) ?_
    exact J.zret rfl rfl dX6_isOf_14 ⟨rfl, _, rfl, hw⟩
  · have hw := hw.2 c6
    refine J.iconst (v := (1 : Int32)) dX6_isOf_9 (by decide) ?_
    refine J.goto 14 dX6_isOf_10 (by decide) ?_
    exact J.zret rfl rfl dX6_isOf_14 ⟨rfl, _, rfl, hw⟩
-- VisitingHoursModel.of(II)I
abbrev MX6_of : jM := (yX6_of, cX6_of, 3, some .int, [])
def wX6_of (t : Nat) (V : Nat → Nat → Int32) (a1 : Int32) (a2 : Int32) (Q : Int32 → Prop) : Prop :=
  (vp_in (((11 : Int32) + ((4 : Int32) * a1)) + a2) 1019 ∧ Q (V (t + 1) (((11 : Int32) + ((4 : Int32) * a1)) + a2).toNatClampNeg))
theorem mX6_of {G : jG} {l : Launch} (htr : l.stackTraces = false) {sh : List jH} {V : Nat → Nat → Int32} {R : Nat → Nat → Option Nat} {t : Nat} (hT : jReg shX6 sh t) {a1 : Int32} {a2 : Int32} {Q : Int32 → Prop} (hw : wX6_of t V a1 a2 Q) : JM G l MX6_of 0 0 0 [.ref t, .int a1, .int a2] (mk sh V R) (jRd (mk sh V R) Q) jNo := by
  refine JM.intro (by decide) rfl htr (Nat.le_of_ble_eq_true rfl) ?_
  show J G l MX6_of 0 0 0 0 [(0, .ref t), (1, .int a1), (2, .int a2)] [] (mk sh V R) _ _
  unfold wX6_of at hw
  refine J.aload_n 0 dX6_of_0 rfl ?_
  refine gX6_7 rfl hT dX6_of_1 ?_
  refine J.bipush (v := (11 : Int32)) dX6_of_4 (by decide) ?_
  refine J.iconst (v := (4 : Int32)) dX6_of_6 (by decide) ?_
  refine J.iload_n 1 dX6_of_7 rfl ?_
  refine J.imul dX6_of_8 ?_
  refine J.iadd dX6_of_9 ?_
  refine J.iload_n 2 dX6_of_10 rfl ?_
  refine J.iadd dX6_of_11 ?_
  obtain ⟨h12, hw⟩ := hw
  refine JV.iald dX6_of_12 (hT.ge 1) (hT.at 1 rfl) h12 ?_
  exact J.iret rfl dX6_of_13 ⟨rfl, _, rfl, hw⟩
-- VisitingHoursModel.ofGuest(II)I
abbrev MX6_ofGuest : jM := (yX6_ofGuest, cX6_ofGuest, 3, some .int, [])
def wX6_ofGuest (t : Nat) (V : Nat → Nat → Int32) (a1 : Int32) (a2 : Int32) (Q : Int32 → Prop) : Prop :=
  (vp_in (((43 : Int32) + ((3 : Int32) * a1)) + a2) 1019 ∧ Q (V (t + 1) (((43 : Int32) + ((3 : Int32) * a1)) + a2).toNatClampNeg))
theorem mX6_ofGuest {G : jG} {l : Launch} (htr : l.stackTraces = false) {sh : List jH} {V : Nat → Nat → Int32} {R : Nat → Nat → Option Nat} {t : Nat} (hT : jReg shX6 sh t) {a1 : Int32} {a2 : Int32} {Q : Int32 → Prop} (hw : wX6_ofGuest t V a1 a2 Q) : JM G l MX6_ofGuest 0 0 0 [.ref t, .int a1, .int a2] (mk sh V R) (jRd (mk sh V R) Q) jNo := by
  refine JM.intro (by decide) rfl htr (Nat.le_of_ble_eq_true rfl) ?_
  show J G l MX6_ofGuest 0 0 0 0 [(0, .ref t), (1, .int a1), (2, .int a2)] [] (mk sh V R) _ _
  unfold wX6_ofGuest at hw
  refine J.aload_n 0 dX6_ofGuest_0 rfl ?_
  refine gX6_7 rfl hT dX6_ofGuest_1 ?_
  refine J.bipush (v := (43 : Int32)) dX6_ofGuest_4 (by decide) ?_
  refine J.iconst (v := (3 : Int32)) dX6_ofGuest_6 (by decide) ?_
  refine J.iload_n 1 dX6_ofGuest_7 rfl ?_
  refine J.imul dX6_ofGuest_8 ?_
  refine J.iadd dX6_ofGuest_9 ?_
  refine J.iload_n 2 dX6_ofGuest_10 rfl ?_
  refine J.iadd dX6_ofGuest_11 ?_
  obtain ⟨h12, hw⟩ := hw
  refine JV.iald dX6_ofGuest_12 (hT.ge 1) (hT.at 1 rfl) h12 ?_
  exact J.iret rfl dX6_ofGuest_13 ⟨rfl, _, rfl, hw⟩
-- VisitingHoursModel.rankOf(II)I
abbrev MX6_rankOf : jM := (yX6_rankOf, cX6_rankOf, 3, some .int, [])
def wX6_rankOf (t : Nat) (V : Nat → Nat → Int32) (a1 : Int32) (a2 : Int32) (Q : Int32 → Prop) : Prop :=
  (vp_in (((67 : Int32) + ((8 : Int32) * a1)) + a2) 1019 ∧ Q (V (t + 1) (((67 : Int32) + ((8 : Int32) * a1)) + a2).toNatClampNeg))
theorem mX6_rankOf {G : jG} {l : Launch} (htr : l.stackTraces = false) {sh : List jH} {V : Nat → Nat → Int32} {R : Nat → Nat → Option Nat} {t : Nat} (hT : jReg shX6 sh t) {a1 : Int32} {a2 : Int32} {Q : Int32 → Prop} (hw : wX6_rankOf t V a1 a2 Q) : JM G l MX6_rankOf 0 0 0 [.ref t, .int a1, .int a2] (mk sh V R) (jRd (mk sh V R) Q) jNo := by
  refine JM.intro (by decide) rfl htr (Nat.le_of_ble_eq_true rfl) ?_
  show J G l MX6_rankOf 0 0 0 0 [(0, .ref t), (1, .int a1), (2, .int a2)] [] (mk sh V R) _ _
  unfold wX6_rankOf at hw
  refine J.aload_n 0 dX6_rankOf_0 rfl ?_
  refine gX6_7 rfl hT dX6_rankOf_1 ?_
  refine J.bipush (v := (67 : Int32)) dX6_rankOf_4 (by decide) ?_
  refine J.bipush (v := (8 : Int32)) dX6_rankOf_6 (by decide) ?_
  refine J.iload_n 1 dX6_rankOf_8 rfl ?_
  refine J.imul dX6_rankOf_9 ?_
  refine J.iadd dX6_rankOf_10 ?_
  refine J.iload_n 2 dX6_rankOf_11 rfl ?_
  refine J.iadd dX6_rankOf_12 ?_
  obtain ⟨h13, hw⟩ := hw
  refine JV.iald dX6_rankOf_13 (hT.ge 1) (hT.at 1 rfl) h13 ?_
  exact J.iret rfl dX6_rankOf_14 ⟨rfl, _, rfl, hw⟩
-- VisitingHoursModel.lovedOf(II)I
abbrev MX6_lovedOf : jM := (yX6_lovedOf, cX6_lovedOf, 3, some .int, [])
def wX6_lovedOf (t : Nat) (V : Nat → Nat → Int32) (a1 : Int32) (a2 : Int32) (Q : Int32 → Prop) : Prop :=
  (vp_in (((131 : Int32) + ((8 : Int32) * a2)) + a1) 1019 ∧ Q (V (t + 1) (((131 : Int32) + ((8 : Int32) * a2)) + a1).toNatClampNeg))
theorem mX6_lovedOf {G : jG} {l : Launch} (htr : l.stackTraces = false) {sh : List jH} {V : Nat → Nat → Int32} {R : Nat → Nat → Option Nat} {t : Nat} (hT : jReg shX6 sh t) {a1 : Int32} {a2 : Int32} {Q : Int32 → Prop} (hw : wX6_lovedOf t V a1 a2 Q) : JM G l MX6_lovedOf 0 0 0 [.ref t, .int a1, .int a2] (mk sh V R) (jRd (mk sh V R) Q) jNo := by
  refine JM.intro (by decide) rfl htr (Nat.le_of_ble_eq_true rfl) ?_
  show J G l MX6_lovedOf 0 0 0 0 [(0, .ref t), (1, .int a1), (2, .int a2)] [] (mk sh V R) _ _
  unfold wX6_lovedOf at hw
  refine J.aload_n 0 dX6_lovedOf_0 rfl ?_
  refine gX6_7 rfl hT dX6_lovedOf_1 ?_
  refine J.sipush (v := (131 : Int32)) dX6_lovedOf_4 (by decide) ?_
  refine J.bipush (v := (8 : Int32)) dX6_lovedOf_7 (by decide) ?_
  refine J.iload_n 2 dX6_lovedOf_9 rfl ?_
  refine J.imul dX6_lovedOf_10 ?_
  refine J.iadd dX6_lovedOf_11 ?_
  refine J.iload_n 1 dX6_lovedOf_12 rfl ?_
  refine J.iadd dX6_lovedOf_13 ?_
  obtain ⟨h14, hw⟩ := hw
  refine JV.iald dX6_lovedOf_14 (hT.ge 1) (hT.at 1 rfl) h14 ?_
  exact J.iret rfl dX6_lovedOf_15 ⟨rfl, _, rfl, hw⟩
theorem kX6_61 {G : jG} {l : Launch} {M : jM} {d c n pc : Nat} {lv : List (Nat × Value)} {rest : List Value} {post : Option Value → List jC → Prop} {xp : String → List jC → Prop} (hM : M.1.cls = RX6) (htr : l.stackTraces = false) {sh : List jH} {V : Nat → Nat → Int32} {R : Nat → Nat → Option Nat} {t : Nat} (hT : jReg shX6 sh t) {a1 : Int32} {a2 : Int32} {Q : Int32 → Prop} (hd : decode M.2.1 pc = .ok (.invokevirtual 61, 3)) (hdd : 0 + 1 ≤ d) (hw8 : (rest.map fun v => v.category).sum ≤ 8) (hw : wX6_rankOf t V a1 a2 Q) (kk : ∀ r, Q r → J G l M d c n (pc + 3) lv (.int r :: rest) (mk sh V R) post xp) : J G l M d c n pc lv (.int a2 :: .int a1 :: .ref t :: rest) (mk sh V R) post xp :=
  J.callV (As := [.int a1, .int a2]) (hcw := by rw [hM]; exact lw_V q2431 q2433 qs106 q152 q2434) (mX6_rankOf htr hT hw) hd rfl ⟨5, _, _, mk_at (hT.at 0 rfl), rfl, rfl, fun _ => rfl⟩ ⟨rfl, by decide, by decide, by show _ = some 2; decide +kernel⟩ hw8 ⟨hdd, by decide⟩ jcc0 (fun r9 g9 h9 => by obtain ⟨rfl, r, rfl, h⟩ := h9; exact kk r h) jNo.x
theorem kX6_65 {G : jG} {l : Launch} {M : jM} {d c n pc : Nat} {lv : List (Nat × Value)} {rest : List Value} {post : Option Value → List jC → Prop} {xp : String → List jC → Prop} (hM : M.1.cls = RX6) (htr : l.stackTraces = false) {sh : List jH} {V : Nat → Nat → Int32} {R : Nat → Nat → Option Nat} {t : Nat} (hT : jReg shX6 sh t) {a1 : Int32} {a2 : Int32} {Q : Int32 → Prop} (hd : decode M.2.1 pc = .ok (.invokevirtual 65, 3)) (hdd : 0 + 1 ≤ d) (hw8 : (rest.map fun v => v.category).sum ≤ 8) (hw : wX6_lovedOf t V a1 a2 Q) (kk : ∀ r, Q r → J G l M d c n (pc + 3) lv (.int r :: rest) (mk sh V R) post xp) : J G l M d c n pc lv (.int a2 :: .int a1 :: .ref t :: rest) (mk sh V R) post xp :=
  J.callV (As := [.int a1, .int a2]) (hcw := by rw [hM]; exact lw_V q2443 q2445 qs108 q152 q2446) (mX6_lovedOf htr hT hw) hd rfl ⟨5, _, _, mk_at (hT.at 0 rfl), rfl, rfl, fun _ => rfl⟩ ⟨rfl, by decide, by decide, by show _ = some 2; decide +kernel⟩ hw8 ⟨hdd, by decide⟩ jcc0 (fun r9 g9 h9 => by obtain ⟨rfl, r, rfl, h⟩ := h9; exact kk r h) jNo.x
-- VisitingHoursModel.mayMeet(II)Z
abbrev MX6_mayMeet : jM := (yX6_mayMeet, cX6_mayMeet, 3, some .boolean, [])
def wX6_mayMeet (t : Nat) (V : Nat → Nat → Int32) (a1 : Int32) (a2 : Int32) (Q : Int32 → Prop) : Prop :=
  wX6_rankOf t V a1 a2 (fun r3 => ((r3 ≤ 0 → Q (0 : Int32)) ∧ (¬ r3 ≤ 0 → wX6_lovedOf t V a1 a2 (fun r12 => ((r12 ≤ 0 → Q (0 : Int32)) ∧ (¬ r12 ≤ 0 → Q (1 : Int32)))))))
theorem mX6_mayMeet {G : jG} {l : Launch} (htr : l.stackTraces = false) {sh : List jH} {V : Nat → Nat → Int32} {R : Nat → Nat → Option Nat} {t : Nat} (hT : jReg shX6 sh t) {a1 : Int32} {a2 : Int32} {Q : Int32 → Prop} (hw : wX6_mayMeet t V a1 a2 Q) : JM G l MX6_mayMeet 1 0 0 [.ref t, .int a1, .int a2] (mk sh V R) (jRd (mk sh V R) Q) jNo := by
  refine JM.intro (by decide) rfl htr (Nat.le_of_ble_eq_true rfl) ?_
  show J G l MX6_mayMeet 1 0 0 0 [(0, .ref t), (1, .int a1), (2, .int a2)] [] (mk sh V R) _ _
  unfold wX6_mayMeet at hw
  refine J.aload_n 0 dX6_mayMeet_0 rfl ?_
  refine J.iload_n 1 dX6_mayMeet_1 rfl ?_
  refine J.iload_n 2 dX6_mayMeet_2 rfl ?_
  refine kX6_61 rfl htr hT dX6_mayMeet_3 (by omega) (Nat.le_of_ble_eq_true rfl) hw (fun r3 hw => ?_)
  refine J.if_le 22 dX6_mayMeet_6 (by decide) ⟨fun c6 => ?_, fun c6 => ?_⟩
  · have hw := hw.1 c6
    refine J.iconst (v := (0 : Int32)) dX6_mayMeet_22 (by decide) ?_
    exact J.zret rfl rfl dX6_mayMeet_23 ⟨rfl, _, rfl, hw⟩
  · have hw := hw.2 c6
    refine J.aload_n 0 dX6_mayMeet_9 rfl ?_
    refine J.iload_n 1 dX6_mayMeet_10 rfl ?_
    refine J.iload_n 2 dX6_mayMeet_11 rfl ?_
    refine kX6_65 rfl htr hT dX6_mayMeet_12 (by omega) (Nat.le_of_ble_eq_true rfl) hw (fun r12 hw => ?_)
    refine J.if_le 22 dX6_mayMeet_15 (by decide) ⟨fun c15 => ?_, fun c15 => ?_⟩
    · have hw := hw.1 c15
      refine J.iconst (v := (0 : Int32)) dX6_mayMeet_22 (by decide) ?_
      exact J.zret rfl rfl dX6_mayMeet_23 ⟨rfl, _, rfl, hw⟩
    · have hw := hw.2 c15
      refine J.iconst (v := (1 : Int32)) dX6_mayMeet_18 (by decide) ?_
      refine J.goto 23 dX6_mayMeet_19 (by decide) ?_
      exact J.zret rfl rfl dX6_mayMeet_23 ⟨rfl, _, rfl, hw⟩
theorem kX6_68 {G : jG} {l : Launch} {M : jM} {d c n pc : Nat} {lv : List (Nat × Value)} {rest : List Value} {post : Option Value → List jC → Prop} {xp : String → List jC → Prop} (hM : M.1.cls = RX6) (htr : l.stackTraces = false) {sh : List jH} {V : Nat → Nat → Int32} {R : Nat → Nat → Option Nat} {t : Nat} (hT : jReg shX6 sh t) {a1 : Int32} {a2 : Int32} {Q : Int32 → Prop} (hd : decode M.2.1 pc = .ok (.invokevirtual 68, 3)) (hdd : 0 + 1 ≤ d) (hw8 : (rest.map fun v => v.category).sum ≤ 8) (hw : wX6_of t V a1 a2 Q) (kk : ∀ r, Q r → J G l M d c n (pc + 3) lv (.int r :: rest) (mk sh V R) post xp) : J G l M d c n pc lv (.int a2 :: .int a1 :: .ref t :: rest) (mk sh V R) post xp :=
  J.callV (As := [.int a1, .int a2]) (hcw := by rw [hM]; exact lw_V q2391 q2393 qs97 q152 q2394) (mX6_of htr hT hw) hd rfl ⟨5, _, _, mk_at (hT.at 0 rfl), rfl, rfl, fun _ => rfl⟩ ⟨rfl, by decide, by decide, by show _ = some 2; decide +kernel⟩ hw8 ⟨hdd, by decide⟩ jcc0 (fun r9 g9 h9 => by obtain ⟨rfl, r, rfl, h⟩ := h9; exact kk r h) jNo.x
theorem kX6_71 {G : jG} {l : Launch} {M : jM} {d c n pc : Nat} {lv : List (Nat × Value)} {rest : List Value} {post : Option Value → List jC → Prop} {xp : String → List jC → Prop} (hM : M.1.cls = RX6) (htr : l.stackTraces = false) {sh : List jH} {V : Nat → Nat → Int32} {R : Nat → Nat → Option Nat} {t : Nat} (hT : jReg shX6 sh t) {a1 : Int32} {a2 : Int32} {Q : Int32 → Prop} (hd : decode M.2.1 pc = .ok (.invokevirtual 71, 3)) (hdd : 0 + 1 ≤ d) (hw8 : (rest.map fun v => v.category).sum ≤ 8) (hw : wX6_ofGuest t V a1 a2 Q) (kk : ∀ r, Q r → J G l M d c n (pc + 3) lv (.int r :: rest) (mk sh V R) post xp) : J G l M d c n pc lv (.int a2 :: .int a1 :: .ref t :: rest) (mk sh V R) post xp :=
  J.callV (As := [.int a1, .int a2]) (hcw := by rw [hM]; exact lw_V q2419 q2421 qs103 q152 q2422) (mX6_ofGuest htr hT hw) hd rfl ⟨5, _, _, mk_at (hT.at 0 rfl), rfl, rfl, fun _ => rfl⟩ ⟨rfl, by decide, by decide, by show _ = some 2; decide +kernel⟩ hw8 ⟨hdd, by decide⟩ jcc0 (fun r9 g9 h9 => by obtain ⟨rfl, r, rfl, h⟩ := h9; exact kk r h) jNo.x
theorem kX6_74 {G : jG} {l : Launch} {M : jM} {d c n pc : Nat} {lv : List (Nat × Value)} {rest : List Value} {post : Option Value → List jC → Prop} {xp : String → List jC → Prop} (hM : M.1.cls = RX6) (htr : l.stackTraces = false) {sh : List jH} {V : Nat → Nat → Int32} {R : Nat → Nat → Option Nat} {a1 : Int32} {a2 : Int32} {Q : Int32 → Prop} (hd : decode M.2.1 pc = .ok (.invokestatic 74, 3)) (hdd : 0 + 1 ≤ d) (hw8 : (rest.map fun v => v.category).sum ≤ 8) (hw : wX6_isOf a1 a2 Q) (kk : ∀ r, Q r → J G l M d c n (pc + 3) lv (.int r :: rest) (mk sh V R) post xp) : J G l M d c n pc lv (.int a2 :: .int a1 :: rest) (mk sh V R) post xp :=
  J.callS (As := [.int a1, .int a2]) (hcw := by rw [hM]; exact lw_S q2355 q2356 q152 q2357) (mX6_isOf htr hw) hd rfl ⟨by decide, by decide, by show _ = some 2; decide +kernel⟩ hw8 ⟨hdd, by decide⟩ jcc0 (fun r9 g9 h9 => by obtain ⟨rfl, r, rfl, h⟩ := h9; exact kk r h) jNo.x
theorem kX6_78 {G : jG} {l : Launch} {M : jM} {d c n pc : Nat} {lv : List (Nat × Value)} {rest : List Value} {post : Option Value → List jC → Prop} {xp : String → List jC → Prop} (hM : M.1.cls = RX6) (htr : l.stackTraces = false) {sh : List jH} {V : Nat → Nat → Int32} {R : Nat → Nat → Option Nat} {t : Nat} (hT : jReg shX6 sh t) {a1 : Int32} {a2 : Int32} {Q : Int32 → Prop} (hd : decode M.2.1 pc = .ok (.invokevirtual 78, 3)) (hdd : 1 + 1 ≤ d) (hw8 : (rest.map fun v => v.category).sum ≤ 8) (hw : wX6_mayMeet t V a1 a2 Q) (kk : ∀ r, Q r → J G l M d c n (pc + 3) lv (.int r :: rest) (mk sh V R) post xp) : J G l M d c n pc lv (.int a2 :: .int a1 :: .ref t :: rest) (mk sh V R) post xp :=
  J.callV (As := [.int a1, .int a2]) (hcw := by rw [hM]; exact lw_V q2466 q2468 qs111 q152 q2469) (mX6_mayMeet htr hT hw) hd rfl ⟨5, _, _, mk_at (hT.at 0 rfl), rfl, rfl, fun _ => rfl⟩ ⟨rfl, by decide, by decide, by show _ = some 2; decide +kernel⟩ hw8 ⟨hdd, by decide⟩ jcc0 (fun r9 g9 h9 => by obtain ⟨rfl, r, rfl, h⟩ := h9; exact kk r h) jNo.x
-- VisitingHoursModel.canMeet(III)Z
abbrev MX6_canMeet : jM := (yX6_canMeet, cX6_canMeet, 4, some .boolean, [])
def wX6_canMeet (t : Nat) (V : Nat → Nat → Int32) (a1 : Int32) (a2 : Int32) (a3 : Int32) (Q : Int32 → Prop) : Prop :=
  wX6_of t V a1 (1 : Int32) (fun r3 => wX6_ofGuest t V a2 (1 : Int32) (fun r9 => wX6_isOf (r3 &&& r9) a3 (fun r14 => ((r14 = 0 → Q (0 : Int32)) ∧ (¬ r14 = 0 → wX6_mayMeet t V a1 a2 (fun r23 => ((r23 = 0 → Q (0 : Int32)) ∧ (¬ r23 = 0 → Q (1 : Int32)))))))))
theorem mX6_canMeet {G : jG} {l : Launch} (htr : l.stackTraces = false) {sh : List jH} {V : Nat → Nat → Int32} {R : Nat → Nat → Option Nat} {t : Nat} (hT : jReg shX6 sh t) {a1 : Int32} {a2 : Int32} {a3 : Int32} {Q : Int32 → Prop} (hw : wX6_canMeet t V a1 a2 a3 Q) : JM G l MX6_canMeet 2 0 0 [.ref t, .int a1, .int a2, .int a3] (mk sh V R) (jRd (mk sh V R) Q) jNo := by
  refine JM.intro (by decide) rfl htr (Nat.le_of_ble_eq_true rfl) ?_
  show J G l MX6_canMeet 2 0 0 0 [(0, .ref t), (1, .int a1), (2, .int a2), (3, .int a3)] [] (mk sh V R) _ _
  unfold wX6_canMeet at hw
  refine J.aload_n 0 dX6_canMeet_0 rfl ?_
  refine J.iload_n 1 dX6_canMeet_1 rfl ?_
  refine J.iconst (v := (1 : Int32)) dX6_canMeet_2 (by decide) ?_
  refine kX6_68 rfl htr hT dX6_canMeet_3 (by omega) (Nat.le_of_ble_eq_true rfl) hw (fun r3 hw => ?_)
  refine J.aload_n 0 dX6_canMeet_6 rfl ?_
  refine J.iload_n 2 dX6_canMeet_7 rfl ?_
  refine J.iconst (v := (1 : Int32)) dX6_canMeet_8 (by decide) ?_
  refine kX6_71 rfl htr hT dX6_canMeet_9 (by omega) (Nat.le_of_ble_eq_true rfl) hw (fun r9 hw => ?_)
  refine J.iand dX6_canMeet_12 ?_
  refine J.iload_n 3 dX6_canMeet_13 rfl ?_
  refine kX6_74 rfl htr dX6_canMeet_14 (by omega) (Nat.le_of_ble_eq_true rfl) hw (fun r14 hw => ?_)
  refine J.if_eq 33 dX6_canMeet_17 (by decide) ⟨fun c17 => ?_, fun c17 => ?_⟩
  · have hw := hw.1 c17
    refine J.iconst (v := (0 : Int32)) dX6_canMeet_33 (by decide) ?_
    exact J.zret rfl rfl dX6_canMeet_34 ⟨rfl, _, rfl, hw⟩
  · have hw := hw.2 c17
    refine J.aload_n 0 dX6_canMeet_20 rfl ?_
    refine J.iload_n 1 dX6_canMeet_21 rfl ?_
    refine J.iload_n 2 dX6_canMeet_22 rfl ?_
    refine kX6_78 rfl htr hT dX6_canMeet_23 (by omega) (Nat.le_of_ble_eq_true rfl) hw (fun r23 hw => ?_)
    refine J.if_eq 33 dX6_canMeet_26 (by decide) ⟨fun c26 => ?_, fun c26 => ?_⟩
    · have hw := hw.1 c26
      refine J.iconst (v := (0 : Int32)) dX6_canMeet_33 (by decide) ?_
      exact J.zret rfl rfl dX6_canMeet_34 ⟨rfl, _, rfl, hw⟩
    · have hw := hw.2 c26
      refine J.iconst (v := (1 : Int32)) dX6_canMeet_29 (by decide) ?_
      refine J.goto 34 dX6_canMeet_30 (by decide) ?_
      exact J.zret rfl rfl dX6_canMeet_34 ⟨rfl, _, rfl, hw⟩
-- VisitingHoursModel.bookedIn(II)I
abbrev MX6_bookedIn : jM := (yX6_bookedIn, cX6_bookedIn, 3, some .int, [])
def wX6_bookedIn (t : Nat) (V : Nat → Nat → Int32) (a1 : Int32) (a2 : Int32) (Q : Int32 → Prop) : Prop :=
  (vp_in (((195 : Int32) + ((8 : Int32) * a1)) + a2) 1019 ∧ Q (V (t + 1) (((195 : Int32) + ((8 : Int32) * a1)) + a2).toNatClampNeg))
theorem mX6_bookedIn {G : jG} {l : Launch} (htr : l.stackTraces = false) {sh : List jH} {V : Nat → Nat → Int32} {R : Nat → Nat → Option Nat} {t : Nat} (hT : jReg shX6 sh t) {a1 : Int32} {a2 : Int32} {Q : Int32 → Prop} (hw : wX6_bookedIn t V a1 a2 Q) : JM G l MX6_bookedIn 0 0 0 [.ref t, .int a1, .int a2] (mk sh V R) (jRd (mk sh V R) Q) jNo := by
  refine JM.intro (by decide) rfl htr (Nat.le_of_ble_eq_true rfl) ?_
  show J G l MX6_bookedIn 0 0 0 0 [(0, .ref t), (1, .int a1), (2, .int a2)] [] (mk sh V R) _ _
  unfold wX6_bookedIn at hw
  refine J.aload_n 0 dX6_bookedIn_0 rfl ?_
  refine gX6_7 rfl hT dX6_bookedIn_1 ?_
  refine J.sipush (v := (195 : Int32)) dX6_bookedIn_4 (by decide) ?_
  refine J.bipush (v := (8 : Int32)) dX6_bookedIn_7 (by decide) ?_
  refine J.iload_n 1 dX6_bookedIn_9 rfl ?_
  refine J.imul dX6_bookedIn_10 ?_
  refine J.iadd dX6_bookedIn_11 ?_
  refine J.iload_n 2 dX6_bookedIn_12 rfl ?_
  refine J.iadd dX6_bookedIn_13 ?_
  obtain ⟨h14, hw⟩ := hw
  refine JV.iald dX6_bookedIn_14 (hT.ge 1) (hT.at 1 rfl) h14 ?_
  exact J.iret rfl dX6_bookedIn_15 ⟨rfl, _, rfl, hw⟩
theorem kX6_271 {G : jG} {l : Launch} {M : jM} {d c n pc : Nat} {lv : List (Nat × Value)} {rest : List Value} {post : Option Value → List jC → Prop} {xp : String → List jC → Prop} (hM : M.1.cls = RX6) (htr : l.stackTraces = false) {sh : List jH} {V : Nat → Nat → Int32} {R : Nat → Nat → Option Nat} {t : Nat} (hT : jReg shX6 sh t) {a1 : Int32} {a2 : Int32} {Q : Int32 → Prop} (hd : decode M.2.1 pc = .ok (.invokevirtual 271, 3)) (hdd : 0 + 1 ≤ d) (hw8 : (rest.map fun v => v.category).sum ≤ 8) (hw : wX6_bookedIn t V a1 a2 Q) (kk : ∀ r, Q r → J G l M d c n (pc + 3) lv (.int r :: rest) (mk sh V R) post xp) : J G l M d c n pc lv (.int a2 :: .int a1 :: .ref t :: rest) (mk sh V R) post xp :=
  J.callV (As := [.int a1, .int a2]) (hcw := by rw [hM]; exact lw_V q2399 q2401 qs99 q152 q2402) (mX6_bookedIn htr hT hw) hd rfl ⟨5, _, _, mk_at (hT.at 0 rfl), rfl, rfl, fun _ => rfl⟩ ⟨rfl, by decide, by decide, by show _ = some 2; decide +kernel⟩ hw8 ⟨hdd, by decide⟩ jcc0 (fun r9 g9 h9 => by obtain ⟨rfl, r, rfl, h⟩ := h9; exact kk r h) jNo.x
-- VisitingHoursModel.seesOf(I)I
abbrev MX6_seesOf : jM := (yX6_seesOf, cX6_seesOf, 4, some .int, [])
def wX6_seesOf_4 (t : Nat) (V : Nat → Nat → Int32) (a1 : Int32) (Q : Int32 → Prop) : Nat → Int32 → Int32 → Prop
  | 0, _, _ => False
  | f + 1, x2, x3 =>
    (((8 : Int32) ≤ x3 → Q x2) ∧ (¬ (8 : Int32) ≤ x3 → wX6_bookedIn t V a1 x3 (fun r14 => ((¬ r14 = (-1 : Int32) → wX6_bookedIn t V a1 x3 (fun r29 => (∀ y34 : Int32, y34 = (x2 ||| ((1 : Int32) <<< (r29 &&& 31))) → (∀ y35 : Int32, y35 = x3 + (1 : Int32) → wX6_seesOf_4 t V a1 Q f y34 y35)))) ∧ (r14 = (-1 : Int32) → (∀ y34 : Int32, y34 = (x2 ||| (0 : Int32)) → (∀ y35 : Int32, y35 = x3 + (1 : Int32) → wX6_seesOf_4 t V a1 Q f y34 y35)))))))
theorem rX6_seesOf_4 {G : jG} {l : Launch} {d c n : Nat} (htr : l.stackTraces = false) (hdd : 1 ≤ d) {sh : List jH} {t : Nat} (hT : jReg shX6 sh t) {R : Nat → Nat → Option Nat} {V : Nat → Nat → Int32} {a1 : Int32} {Q : Int32 → Prop} : ∀ (f : Nat) (x2 : Int32) (x3 : Int32), wX6_seesOf_4 t V a1 Q f x2 x3 → J G l MX6_seesOf d c n 4 [(0, .ref t), (1, .int a1), (2, .int x2), (3, .int x3)] [] (mk sh V R) (jRd (mk sh V R) Q) jNo := by
  intro f
  induction f with
  | zero =>
    intro x2 x3 hw
    rw [wX6_seesOf_4] at hw
    exact hw.elim
  | succ f ih =>
    intro x2 x3 hw
    rw [wX6_seesOf_4] at hw
    refine J.iload_n 3 dX6_seesOf_4 rfl ?_
    refine J.bipush (v := (8 : Int32)) dX6_seesOf_5 (by decide) ?_
    refine J.icmp_ge 41 dX6_seesOf_7 (by decide) ⟨fun c7 => ?_, fun c7 => ?_⟩
    · have hw := hw.1 c7
      refine J.iload_n 2 dX6_seesOf_41 rfl ?_
      exact J.iret rfl dX6_seesOf_42 ⟨rfl, _, rfl, hw⟩
    · have hw := hw.2 c7
      refine J.iload_n 2 dX6_seesOf_10 rfl ?_
      refine J.aload_n 0 dX6_seesOf_11 rfl ?_
      refine J.iload_n 1 dX6_seesOf_12 rfl ?_
      refine J.iload_n 3 dX6_seesOf_13 rfl ?_
      refine kX6_271 rfl htr hT dX6_seesOf_14 (by omega) (Nat.le_of_ble_eq_true rfl) hw (fun r14 hw => ?_)
      refine J.iconst (v := (-1 : Int32)) dX6_seesOf_17 (by decide) ?_
      refine J.icmp_ne 25 dX6_seesOf_18 (by decide) ⟨fun c18 => ?_, fun c18 => ?_⟩
      · have hw := hw.1 c18
        refine J.iconst (v := (1 : Int32)) dX6_seesOf_25 (by decide) ?_
        refine J.aload_n 0 dX6_seesOf_26 rfl ?_
        refine J.iload_n 1 dX6_seesOf_27 rfl ?_
        refine J.iload_n 3 dX6_seesOf_28 rfl ?_
        refine kX6_271 rfl htr hT dX6_seesOf_29 (by omega) (Nat.le_of_ble_eq_true rfl) hw (fun r29 hw => ?_)
        refine J.ishl dX6_seesOf_32 ?_
        refine J.ior dX6_seesOf_33 ?_
        refine J.nm hw (fun y34 hw => ?_)
        refine J.istore_n (lv' := [(2, .int y34), (0, .ref t), (1, .int a1), (3, .int x3)]) dX6_seesOf_34 (by decide) rfl ?_
        refine J.iincN 3 (K := (1 : Int32)) (lv' := fun y35 => [(3, .int y35), (2, .int y34), (0, .ref t), (1, .int a1)]) dX6_seesOf_35 rfl (by decide) (by decide) (fun _ => rfl) hw (fun y35 hw => ?_)
        refine J.goto 4 dX6_seesOf_38 (by decide) ?_
        exact J.pick [2, 3, 1, 0] rfl (ih _ _ hw)
      · have hw := hw.2 c18
        refine J.iconst (v := (0 : Int32)) dX6_seesOf_21 (by decide) ?_
        refine J.goto 33 dX6_seesOf_22 (by decide) ?_
        refine J.ior dX6_seesOf_33 ?_
        refine J.nm hw (fun y34 hw => ?_)
        refine J.istore_n (lv' := [(2, .int y34), (0, .ref t), (1, .int a1), (3, .int x3)]) dX6_seesOf_34 (by decide) rfl ?_
        refine J.iincN 3 (K := (1 : Int32)) (lv' := fun y35 => [(3, .int y35), (2, .int y34), (0, .ref t), (1, .int a1)]) dX6_seesOf_35 rfl (by decide) (by decide) (fun _ => rfl) hw (fun y35 hw => ?_)
        refine J.goto 4 dX6_seesOf_38 (by decide) ?_
        exact J.pick [2, 3, 1, 0] rfl (ih _ _ hw)
def wX6_seesOf (t : Nat) (V : Nat → Nat → Int32) (a1 : Int32) (Q : Int32 → Prop) : Prop :=
  (∃ f9, wX6_seesOf_4 t V a1 Q f9 (0 : Int32) (0 : Int32))
theorem mX6_seesOf {G : jG} {l : Launch} (htr : l.stackTraces = false) {sh : List jH} {V : Nat → Nat → Int32} {R : Nat → Nat → Option Nat} {t : Nat} (hT : jReg shX6 sh t) {a1 : Int32} {Q : Int32 → Prop} (hw : wX6_seesOf t V a1 Q) : JM G l MX6_seesOf 1 0 0 [.ref t, .int a1] (mk sh V R) (jRd (mk sh V R) Q) jNo := by
  refine JM.intro (by decide) rfl htr (Nat.le_of_ble_eq_true rfl) ?_
  show J G l MX6_seesOf 1 0 0 0 [(0, .ref t), (1, .int a1)] [] (mk sh V R) _ _
  unfold wX6_seesOf at hw
  refine J.iconst (v := (0 : Int32)) dX6_seesOf_0 (by decide) ?_
  refine J.istore_n (lv' := [(2, .int (0 : Int32)), (0, .ref t), (1, .int a1)]) dX6_seesOf_1 (by decide) rfl ?_
  refine J.iconst (v := (0 : Int32)) dX6_seesOf_2 (by decide) ?_
  refine J.istore_n (lv' := [(3, .int (0 : Int32)), (2, .int (0 : Int32)), (0, .ref t), (1, .int a1)]) dX6_seesOf_3 (by decide) rfl ?_
  obtain ⟨f9, hw⟩ := hw
  exact J.pick [2, 3, 1, 0] rfl (rX6_seesOf_4 htr (Nat.le_refl _) hT f9 _ _ hw)
-- VisitingHoursModel.busyOf(I)I
abbrev MX6_busyOf : jM := (yX6_busyOf, cX6_busyOf, 5, some .int, [])
def wX6_busyOf_17 (t : Nat) (V : Nat → Nat → Int32) (a1 : Int32) (Q : Int32 → Prop) (K4 : Int32 → Int32 → Prop) : Nat → Int32 → Int32 → Int32 → Prop
  | 0, _, _, _ => False
  | f + 1, x2, x3, x4 =>
    (((8 : Int32) ≤ x4 → (∀ y52 : Int32, y52 = x3 + (1 : Int32) → K4 x2 y52)) ∧ (¬ (8 : Int32) ≤ x4 → wX6_bookedIn t V x3 x4 (fun r29 => ((¬ r29 = a1 → (∀ y45 : Int32, y45 = (x2 ||| (0 : Int32)) → (∀ y46 : Int32, y46 = x4 + (1 : Int32) → wX6_busyOf_17 t V a1 Q K4 f y45 x3 y46))) ∧ (r29 = a1 → (∀ y45 : Int32, y45 = (x2 ||| ((1 : Int32) <<< (x4 &&& 31))) → (∀ y46 : Int32, y46 = x4 + (1 : Int32) → wX6_busyOf_17 t V a1 Q K4 f y45 x3 y46)))))))
theorem rX6_busyOf_17 {G : jG} {l : Launch} {d c n : Nat} (htr : l.stackTraces = false) (hdd : 1 ≤ d) {sh : List jH} {t : Nat} (hT : jReg shX6 sh t) {R : Nat → Nat → Option Nat} {V : Nat → Nat → Int32} {a1 : Int32} {Q : Int32 → Prop} {K4 : Int32 → Int32 → Prop} (hK4 : ∀ (x2 : Int32) (x3 : Int32), K4 x2 x3 → J G l MX6_busyOf d c n 4 [(0, .ref t), (1, .int a1), (2, .int x2), (3, .int x3)] [] (mk sh V R) (jRd (mk sh V R) Q) jNo) : ∀ (f : Nat) (x2 : Int32) (x3 : Int32) (x4 : Int32), wX6_busyOf_17 t V a1 Q K4 f x2 x3 x4 → J G l MX6_busyOf d c n 17 [(0, .ref t), (1, .int a1), (2, .int x2), (3, .int x3), (4, .int x4)] [] (mk sh V R) (jRd (mk sh V R) Q) jNo := by
  intro f
  induction f with
  | zero =>
    intro x2 x3 x4 hw
    rw [wX6_busyOf_17] at hw
    exact hw.elim
  | succ f ih =>
    intro x2 x3 x4 hw
    rw [wX6_busyOf_17] at hw
    refine J.iload 4 dX6_busyOf_17 rfl ?_
    refine J.bipush (v := (8 : Int32)) dX6_busyOf_19 (by decide) ?_
    refine J.icmp_ge 52 dX6_busyOf_21 (by decide) ⟨fun c21 => ?_, fun c21 => ?_⟩
    · have hw := hw.1 c21
      refine J.iincN 3 (K := (1 : Int32)) (lv' := fun y52 => [(3, .int y52), (0, .ref t), (1, .int a1), (2, .int x2), (4, .int x4)]) dX6_busyOf_52 rfl (by decide) (by decide) (fun _ => rfl) hw (fun y52 hw => ?_)
      refine J.goto 4 dX6_busyOf_55 (by decide) ?_
      exact J.pick [1, 2, 3, 0] rfl (hK4 _ _ hw)
    · have hw := hw.2 c21
      refine J.iload_n 2 dX6_busyOf_24 rfl ?_
      refine J.aload_n 0 dX6_busyOf_25 rfl ?_
      refine J.iload_n 3 dX6_busyOf_26 rfl ?_
      refine J.iload 4 dX6_busyOf_27 rfl ?_
      refine kX6_271 rfl htr hT dX6_busyOf_29 (by omega) (Nat.le_of_ble_eq_true rfl) hw (fun r29 hw => ?_)
      refine J.iload_n 1 dX6_busyOf_32 rfl ?_
      refine J.icmp_ne 43 dX6_busyOf_33 (by decide) ⟨fun c33 => ?_, fun c33 => ?_⟩
      · have hw := hw.1 c33
        refine J.iconst (v := (0 : Int32)) dX6_busyOf_43 (by decide) ?_
        refine J.ior dX6_busyOf_44 ?_
        refine J.nm hw (fun y45 hw => ?_)
        refine J.istore_n (lv' := [(2, .int y45), (0, .ref t), (1, .int a1), (3, .int x3), (4, .int x4)]) dX6_busyOf_45 (by decide) rfl ?_
        refine J.iincN 4 (K := (1 : Int32)) (lv' := fun y46 => [(4, .int y46), (2, .int y45), (0, .ref t), (1, .int a1), (3, .int x3)]) dX6_busyOf_46 rfl (by decide) (by decide) (fun _ => rfl) hw (fun y46 hw => ?_)
        refine J.goto 17 dX6_busyOf_49 (by decide) ?_
        exact J.pick [2, 3, 1, 4, 0] rfl (ih _ _ _ hw)
      · have hw := hw.2 c33
        refine J.iconst (v := (1 : Int32)) dX6_busyOf_36 (by decide) ?_
        refine J.iload 4 dX6_busyOf_37 rfl ?_
        refine J.ishl dX6_busyOf_39 ?_
        refine J.goto 44 dX6_busyOf_40 (by decide) ?_
        refine J.ior dX6_busyOf_44 ?_
        refine J.nm hw (fun y45 hw => ?_)
        refine J.istore_n (lv' := [(2, .int y45), (0, .ref t), (1, .int a1), (3, .int x3), (4, .int x4)]) dX6_busyOf_45 (by decide) rfl ?_
        refine J.iincN 4 (K := (1 : Int32)) (lv' := fun y46 => [(4, .int y46), (2, .int y45), (0, .ref t), (1, .int a1), (3, .int x3)]) dX6_busyOf_46 rfl (by decide) (by decide) (fun _ => rfl) hw (fun y46 hw => ?_)
        refine J.goto 17 dX6_busyOf_49 (by decide) ?_
        exact J.pick [2, 3, 1, 4, 0] rfl (ih _ _ _ hw)
def wX6_busyOf_4 (t : Nat) (V : Nat → Nat → Int32) (a1 : Int32) (Q : Int32 → Prop) : Nat → Int32 → Int32 → Prop
  | 0, _, _ => False
  | f + 1, x2, x3 =>
    (((V (t + 1) 3) ≤ x3 → Q x2) ∧ (¬ (V (t + 1) 3) ≤ x3 → (∃ f9, wX6_busyOf_17 t V a1 Q (fun x2 x3 => wX6_busyOf_4 t V a1 Q f x2 x3) f9 x2 x3 (0 : Int32))))
theorem rX6_busyOf_4 {G : jG} {l : Launch} {d c n : Nat} (htr : l.stackTraces = false) (hdd : 1 ≤ d) {sh : List jH} {t : Nat} (hT : jReg shX6 sh t) {R : Nat → Nat → Option Nat} {V : Nat → Nat → Int32} {a1 : Int32} {Q : Int32 → Prop} : ∀ (f : Nat) (x2 : Int32) (x3 : Int32), wX6_busyOf_4 t V a1 Q f x2 x3 → J G l MX6_busyOf d c n 4 [(0, .ref t), (1, .int a1), (2, .int x2), (3, .int x3)] [] (mk sh V R) (jRd (mk sh V R) Q) jNo := by
  intro f
  induction f with
  | zero =>
    intro x2 x3 hw
    rw [wX6_busyOf_4] at hw
    exact hw.elim
  | succ f ih =>
    intro x2 x3 hw
    rw [wX6_busyOf_4] at hw
    refine J.iload_n 3 dX6_busyOf_4 rfl ?_
    refine J.aload_n 0 dX6_busyOf_5 rfl ?_
    refine gX6_7 rfl hT dX6_busyOf_6 ?_
    refine J.iconst (v := (3 : Int32)) dX6_busyOf_9 (by decide) ?_
    refine JV.ialdK 3 dX6_busyOf_10 (hT.ge 1) (hT.at 1 rfl) rfl (by decide) (by decide) ?_
    refine J.icmp_ge 58 dX6_busyOf_11 (by decide) ⟨fun c11 => ?_, fun c11 => ?_⟩
    · have hw := hw.1 c11
      refine J.iload_n 2 dX6_busyOf_58 rfl ?_
      exact J.iret rfl dX6_busyOf_59 ⟨rfl, _, rfl, hw⟩
    · have hw := hw.2 c11
      refine J.iconst (v := (0 : Int32)) dX6_busyOf_14 (by decide) ?_
      refine J.istore (lv' := [(4, .int (0 : Int32)), (0, .ref t), (1, .int a1), (2, .int x2), (3, .int x3)]) dX6_busyOf_15 (by decide) rfl ?_
      obtain ⟨f9, hw⟩ := hw
      exact J.pick [1, 2, 3, 4, 0] rfl (rX6_busyOf_17 htr hdd hT ih f9 _ _ _ hw)
def wX6_busyOf (t : Nat) (V : Nat → Nat → Int32) (a1 : Int32) (Q : Int32 → Prop) : Prop :=
  (∃ f9, wX6_busyOf_4 t V a1 Q f9 (0 : Int32) (0 : Int32))
theorem mX6_busyOf {G : jG} {l : Launch} (htr : l.stackTraces = false) {sh : List jH} {V : Nat → Nat → Int32} {R : Nat → Nat → Option Nat} {t : Nat} (hT : jReg shX6 sh t) {a1 : Int32} {Q : Int32 → Prop} (hw : wX6_busyOf t V a1 Q) : JM G l MX6_busyOf 1 0 0 [.ref t, .int a1] (mk sh V R) (jRd (mk sh V R) Q) jNo := by
  refine JM.intro (by decide) rfl htr (Nat.le_of_ble_eq_true rfl) ?_
  show J G l MX6_busyOf 1 0 0 0 [(0, .ref t), (1, .int a1)] [] (mk sh V R) _ _
  unfold wX6_busyOf at hw
  refine J.iconst (v := (0 : Int32)) dX6_busyOf_0 (by decide) ?_
  refine J.istore_n (lv' := [(2, .int (0 : Int32)), (0, .ref t), (1, .int a1)]) dX6_busyOf_1 (by decide) rfl ?_
  refine J.iconst (v := (0 : Int32)) dX6_busyOf_2 (by decide) ?_
  refine J.istore_n (lv' := [(3, .int (0 : Int32)), (2, .int (0 : Int32)), (0, .ref t), (1, .int a1)]) dX6_busyOf_3 (by decide) rfl ?_
  obtain ⟨f9, hw⟩ := hw
  exact J.pick [2, 3, 1, 0] rfl (rX6_busyOf_4 htr (Nat.le_refl _) hT f9 _ _ hw)
theorem kX6_280 {G : jG} {l : Launch} {M : jM} {d c n pc : Nat} {lv : List (Nat × Value)} {rest : List Value} {post : Option Value → List jC → Prop} {xp : String → List jC → Prop} (hM : M.1.cls = RX6) (htr : l.stackTraces = false) {sh : List jH} {V : Nat → Nat → Int32} {R : Nat → Nat → Option Nat} {t : Nat} (hT : jReg shX6 sh t) {a1 : Int32} {a2 : Int32} {a3 : Int32} {Q : Int32 → Prop} (hd : decode M.2.1 pc = .ok (.invokevirtual 280, 3)) (hdd : 2 + 1 ≤ d) (hw8 : (rest.map fun v => v.category).sum ≤ 8) (hw : wX6_canMeet t V a1 a2 a3 Q) (kk : ∀ r, Q r → J G l M d c n (pc + 3) lv (.int r :: rest) (mk sh V R) post xp) : J G l M d c n pc lv (.int a3 :: .int a2 :: .int a1 :: .ref t :: rest) (mk sh V R) post xp :=
  J.callV (As := [.int a1, .int a2, .int a3]) (hcw := by rw [hM]; exact lw_V q2462 q2464 qs110 q152 q2465) (mX6_canMeet htr hT hw) hd rfl ⟨5, _, _, mk_at (hT.at 0 rfl), rfl, rfl, fun _ => rfl⟩ ⟨rfl, by decide, by decide, by show _ = some 3; decide +kernel⟩ hw8 ⟨hdd, by decide⟩ jcc0 (fun r9 g9 h9 => by obtain ⟨rfl, r, rfl, h⟩ := h9; exact kk r h) jNo.x
theorem kX6_316 {G : jG} {l : Launch} {M : jM} {d c n pc : Nat} {lv : List (Nat × Value)} {rest : List Value} {post : Option Value → List jC → Prop} {xp : String → List jC → Prop} (hM : M.1.cls = RX6) (htr : l.stackTraces = false) {sh : List jH} {V : Nat → Nat → Int32} {R : Nat → Nat → Option Nat} {t : Nat} (hT : jReg shX6 sh t) {a1 : Int32} {Q : Int32 → Prop} (hd : decode M.2.1 pc = .ok (.invokevirtual 316, 3)) (hdd : 1 + 1 ≤ d) (hw8 : (rest.map fun v => v.category).sum ≤ 8) (hw : wX6_seesOf t V a1 Q) (kk : ∀ r, Q r → J G l M d c n (pc + 3) lv (.int r :: rest) (mk sh V R) post xp) : J G l M d c n pc lv (.int a1 :: .ref t :: rest) (mk sh V R) post xp :=
  J.callV (As := [.int a1]) (hcw := by rw [hM]; exact lw_V q2403 q2405 qs100 q152 q2406) (mX6_seesOf htr hT hw) hd rfl ⟨5, _, _, mk_at (hT.at 0 rfl), rfl, rfl, fun _ => rfl⟩ ⟨rfl, by decide, by decide, by show _ = some 1; decide +kernel⟩ hw8 ⟨hdd, by decide⟩ jcc0 (fun r9 g9 h9 => by obtain ⟨rfl, r, rfl, h⟩ := h9; exact kk r h) jNo.x
theorem kX6_325 {G : jG} {l : Launch} {M : jM} {d c n pc : Nat} {lv : List (Nat × Value)} {rest : List Value} {post : Option Value → List jC → Prop} {xp : String → List jC → Prop} (hM : M.1.cls = RX6) (htr : l.stackTraces = false) {sh : List jH} {V : Nat → Nat → Int32} {R : Nat → Nat → Option Nat} {t : Nat} (hT : jReg shX6 sh t) {a1 : Int32} {Q : Int32 → Prop} (hd : decode M.2.1 pc = .ok (.invokevirtual 325, 3)) (hdd : 1 + 1 ≤ d) (hw8 : (rest.map fun v => v.category).sum ≤ 8) (hw : wX6_busyOf t V a1 Q) (kk : ∀ r, Q r → J G l M d c n (pc + 3) lv (.int r :: rest) (mk sh V R) post xp) : J G l M d c n pc lv (.int a1 :: .ref t :: rest) (mk sh V R) post xp :=
  J.callV (As := [.int a1]) (hcw := by rw [hM]; exact lw_V q2423 q2425 qs104 q152 q2426) (mX6_busyOf htr hT hw) hd rfl ⟨5, _, _, mk_at (hT.at 0 rfl), rfl, rfl, fun _ => rfl⟩ ⟨rfl, by decide, by decide, by show _ = some 1; decide +kernel⟩ hw8 ⟨hdd, by decide⟩ jcc0 (fun r9 g9 h9 => by obtain ⟨rfl, r, rfl, h⟩ := h9; exact kk r h) jNo.x
-- VisitingHoursModel.brings(IIII)I
abbrev MX6_brings : jM := (yX6_brings, cX6_brings, 6, some .int, [])
def wX6_brings_60 (t : Nat) (V : Nat → Nat → Int32) (a1 : Int32) (a2 : Int32) (a3 : Int32) (a4 : Int32) (Q : Int32 → Prop) (s0 : Int32) : Prop :=
  ((s0 = 0 → Q (-1 : Int32)) ∧ (¬ s0 = 0 → wX6_rankOf t V a2 a1 (fun r70 => Q r70)))
theorem rX6_brings_60 {G : jG} {l : Launch} {d c n : Nat} (htr : l.stackTraces = false) (hdd : 3 ≤ d) {sh : List jH} {t : Nat} (hT : jReg shX6 sh t) {R : Nat → Nat → Option Nat} {V : Nat → Nat → Int32} {a1 : Int32} {a2 : Int32} {a3 : Int32} {a4 : Int32} {Q : Int32 → Prop} {s0 : Int32} (hw : wX6_brings_60 t V a1 a2 a3 a4 Q s0) : J G l MX6_brings d c n 60 [(0, .ref t), (1, .int a1), (2, .int a2)] [.int s0] (mk sh V R) (jRd (mk sh V R) Q) jNo := by
  unfold wX6_brings_60 at hw
  refine J.istore (lv' := [(5, .int s0), (0, .ref t), (1, .int a1), (2, .int a2)]) dX6_brings_60 (by decide) rfl ?_
  refine J.iload 0 dX6_brings_62 rfl ?_
  refine J.if_eq 76 dX6_brings_64 (by decide) ⟨fun c64 => ?_, fun c64 => ?_⟩
  · have hw := hw.1 c64
    refine J.iconst (v := (-1 : Int32)) dX6_brings_76 (by decide) ?_
    exact J.iret rfl dX6_brings_77 ⟨rfl, _, rfl, hw⟩
  · have hw := hw.2 c64
    refine J.aload_n 1 dX6_brings_67 rfl ?_
    refine J.iload_n 3 dX6_brings_68 rfl ?_
    refine J.iload_n 2 dX6_brings_69 rfl ?_
    refine kX6_61 rfl htr hT dX6_brings_70 (by omega) (Nat.le_of_ble_eq_true rfl) hw (fun r70 hw => ?_)
    refine J.goto 77 dX6_brings_73 (by decide) ?_
    exact J.iret rfl dX6_brings_77 ⟨rfl, _, rfl, hw⟩
def wX6_brings_59 (t : Nat) (V : Nat → Nat → Int32) (a1 : Int32) (a2 : Int32) (a3 : Int32) (a4 : Int32) (Q : Int32 → Prop) : Prop :=
  wX6_brings_60 t V a1 a2 a3 a4 Q (0 : Int32)
theorem rX6_brings_59 {G : jG} {l : Launch} {d c n : Nat} (htr : l.stackTraces = false) (hdd : 3 ≤ d) {sh : List jH} {t : Nat} (hT : jReg shX6 sh t) {R : Nat → Nat → Option Nat} {V : Nat → Nat → Int32} {a1 : Int32} {a2 : Int32} {a3 : Int32} {a4 : Int32} {Q : Int32 → Prop} (hw : wX6_brings_59 t V a1 a2 a3 a4 Q) : J G l MX6_brings d c n 59 [(0, .ref t), (1, .int a1), (2, .int a2)] [] (mk sh V R) (jRd (mk sh V R) Q) jNo := by
  unfold wX6_brings_59 at hw
  refine J.iconst (v := (0 : Int32)) dX6_brings_59 (by decide) ?_
  exact (rX6_brings_60 htr hdd hT hw)
def wX6_brings (t : Nat) (V : Nat → Nat → Int32) (a1 : Int32) (a2 : Int32) (a3 : Int32) (a4 : Int32) (Q : Int32 → Prop) : Prop :=
  ((a3 = (-1 : Int32) → wX6_isOf a4 a2 (fun r24 => ((r24 = 0 → wX6_brings_59 t V a1 a2 a3 a4 Q) ∧ (¬ r24 = 0 → wX6_seesOf t V a2 (fun r32 => ((¬ r32 = 0 → wX6_brings_59 t V a1 a2 a3 a4 Q) ∧ (r32 = 0 → wX6_busyOf t V a1 (fun r40 => ((¬ r40 = 0 → wX6_brings_59 t V a1 a2 a3 a4 Q) ∧ (r40 = 0 → wX6_mayMeet t V a2 a1 (fun r49 => ((r49 = 0 → wX6_brings_59 t V a1 a2 a3 a4 Q) ∧ (¬ r49 = 0 → wX6_brings_60 t V a1 a2 a3 a4 Q (1 : Int32)))))))))))))) ∧ (¬ a3 = (-1 : Int32) → wX6_canMeet t V a1 a2 a3 (fun r9 => ((r9 = 0 → Q (-1 : Int32)) ∧ (¬ r9 = 0 → Q (1 : Int32))))))
theorem mX6_brings {G : jG} {l : Launch} (htr : l.stackTraces = false) {sh : List jH} {V : Nat → Nat → Int32} {R : Nat → Nat → Option Nat} {t : Nat} (hT : jReg shX6 sh t) {a1 : Int32} {a2 : Int32} {a3 : Int32} {a4 : Int32} {Q : Int32 → Prop} (hw : wX6_brings t V a1 a2 a3 a4 Q) : JM G l MX6_brings 3 0 0 [.ref t, .int a1, .int a2, .int a3, .int a4] (mk sh V R) (jRd (mk sh V R) Q) jNo := by
  refine JM.intro (by decide) rfl htr (Nat.le_of_ble_eq_true rfl) ?_
  show J G l MX6_brings 3 0 0 0 [(0, .ref t), (1, .int a1), (2, .int a2), (3, .int a3), (4, .int a4)] [] (mk sh V R) _ _
  unfold wX6_brings at hw
  refine J.iload_n 3 dX6_brings_0 rfl ?_
  refine J.iconst (v := (-1 : Int32)) dX6_brings_1 (by decide) ?_
  refine J.icmp_eq 21 dX6_brings_2 (by decide) ⟨fun c2 => ?_, fun c2 => ?_⟩
  · have hw := hw.1 c2
    refine J.iload 4 dX6_brings_21 rfl ?_
    refine J.iload_n 2 dX6_brings_23 rfl ?_
    refine kX6_74 rfl htr dX6_brings_24 (by omega) (Nat.le_of_ble_eq_true rfl) hw (fun r24 hw => ?_)
    refine J.if_eq 59 dX6_brings_27 (by decide) ⟨fun c27 => ?_, fun c27 => ?_⟩
    · have hw := hw.1 c27
      exact J.pick [0, 1, 2] rfl (rX6_brings_59 htr (Nat.le_refl _) hT hw)
    · have hw := hw.2 c27
      refine J.aload_n 0 dX6_brings_30 rfl ?_
      refine J.iload_n 2 dX6_brings_31 rfl ?_
      refine kX6_316 rfl htr hT dX6_brings_32 (by omega) (Nat.le_of_ble_eq_true rfl) hw (fun r32 hw => ?_)
      refine J.if_ne 59 dX6_brings_35 (by decide) ⟨fun c35 => ?_, fun c35 => ?_⟩
      · have hw := hw.1 c35
        exact J.pick [0, 1, 2] rfl (rX6_brings_59 htr (Nat.le_refl _) hT hw)
      · have hw := hw.2 c35
        refine J.aload_n 0 dX6_brings_38 rfl ?_
        refine J.iload_n 1 dX6_brings_39 rfl ?_
        refine kX6_325 rfl htr hT dX6_brings_40 (by omega) (Nat.le_of_ble_eq_true rfl) hw (fun r40 hw => ?_)
        refine J.if_ne 59 dX6_brings_43 (by decide) ⟨fun c43 => ?_, fun c43 => ?_⟩
        · have hw := hw.1 c43
          exact J.pick [0, 1, 2] rfl (rX6_brings_59 htr (Nat.le_refl _) hT hw)
        · have hw := hw.2 c43
          refine J.aload_n 0 dX6_brings_46 rfl ?_
          refine J.iload_n 2 dX6_brings_47 rfl ?_
          refine J.iload_n 1 dX6_brings_48 rfl ?_
          refine kX6_78 rfl htr hT dX6_brings_49 (by omega) (Nat.le_of_ble_eq_true rfl) hw (fun r49 hw => ?_)
          refine J.if_eq 59 dX6_brings_52 (by decide) ⟨fun c52 => ?_, fun c52 => ?_⟩
          · have hw := hw.1 c52
            exact J.pick [0, 1, 2] rfl (rX6_brings_59 htr (Nat.le_refl _) hT hw)
          · have hw := hw.2 c52
            refine J.iconst (v := (1 : Int32)) dX6_brings_55 (by decide) ?_
            refine J.goto 60 dX6_brings_56 (by decide) ?_
            exact J.pick [0, 1, 2] rfl (rX6_brings_60 htr (Nat.le_refl _) hT hw)
  · have hw := hw.2 c2
    refine J.aload_n 0 dX6_brings_5 rfl ?_
    refine J.iload_n 1 dX6_brings_6 rfl ?_
    refine J.iload_n 2 dX6_brings_7 rfl ?_
    refine J.iload_n 3 dX6_brings_8 rfl ?_
    refine kX6_280 rfl htr hT dX6_brings_9 (by omega) (Nat.le_of_ble_eq_true rfl) hw (fun r9 hw => ?_)
    refine J.if_eq 19 dX6_brings_12 (by decide) ⟨fun c12 => ?_, fun c12 => ?_⟩
    · have hw := hw.1 c12
      refine J.iconst (v := (-1 : Int32)) dX6_brings_19 (by decide) ?_
      exact J.iret rfl dX6_brings_20 ⟨rfl, _, rfl, hw⟩
    · have hw := hw.2 c12
      refine J.iconst (v := (1 : Int32)) dX6_brings_15 (by decide) ?_
      refine J.goto 20 dX6_brings_16 (by decide) ?_
      exact J.iret rfl dX6_brings_20 ⟨rfl, _, rfl, hw⟩
-- VisitingHoursModel.greater(II)I
abbrev MX6_greater : jM := (yX6_greater, cX6_greater, 2, some .int, [])
def wX6_greater (a1 : Int32) (a2 : Int32) (Q : Int32 → Prop) : Prop :=
  ((a1 ≤ a2 → Q a2) ∧ (¬ a1 ≤ a2 → Q a1))
theorem mX6_greater {G : jG} {l : Launch} (htr : l.stackTraces = false) {sh : List jH} {V : Nat → Nat → Int32} {R : Nat → Nat → Option Nat} {a1 : Int32} {a2 : Int32} {Q : Int32 → Prop} (hw : wX6_greater a1 a2 Q) : JM G l MX6_greater 0 0 0 [.int a1, .int a2] (mk sh V R) (jRd (mk sh V R) Q) jNo := by
  refine JM.intro (by decide) rfl htr (Nat.le_of_ble_eq_true rfl) ?_
  show J G l MX6_greater 0 0 0 0 [(0, .int a1), (1, .int a2)] [] (mk sh V R) _ _
  unfold wX6_greater at hw
  refine J.iload_n 0 dX6_greater_0 rfl ?_
  refine J.iload_n 1 dX6_greater_1 rfl ?_
  refine J.icmp_le 9 dX6_greater_2 (by decide) ⟨fun c2 => ?_, fun c2 => ?_⟩
  · have hw := hw.1 c2
    refine J.iload_n 1 dX6_greater_9 rfl ?_
    exact J.iret rfl dX6_greater_10 ⟨rfl, _, rfl, hw⟩
  · have hw := hw.2 c2
    refine J.iload_n 0 dX6_greater_5 rfl ?_
    refine J.goto 10 dX6_greater_6 (by decide) ?_
    exact J.iret rfl dX6_greater_10 ⟨rfl, _, rfl, hw⟩
theorem gX6_44 {G : jG} {l : Launch} {M : jM} {d c n pc : Nat} {lv : List (Nat × Value)} {st : List Value} {sh : List jH} {V : Nat → Nat → Int32} {R : Nat → Nat → Option Nat} {post : Option Value → List jC → Prop} {xp : String → List jC → Prop} {t : Nat} (hM : M.1.cls = RX6) (hT : jReg shX6 sh t) (hd : decode M.2.1 pc = .ok (.getfield 44, 3)) (kk : J G l M d c n (pc + 3) lv (.ref (t + 11) :: st) (mk sh V R) post xp) : J G l M d c n pc lv (.ref t :: st) (mk sh V R) post xp := JV.getf (C := RX6) (T0 := TX6) (N := 28) 25 hd hT.1 (hT.at 0 rfl) rfl in_X6 (by decide) (by rw [hM]; exact q2153) rfl rfl kk
theorem kX6_277 {G : jG} {l : Launch} {M : jM} {d c n pc : Nat} {lv : List (Nat × Value)} {rest : List Value} {post : Option Value → List jC → Prop} {xp : String → List jC → Prop} (hM : M.1.cls = RX6) (htr : l.stackTraces = false) {sh : List jH} {V : Nat → Nat → Int32} {R : Nat → Nat → Option Nat} {a1 : Int32} {a2 : Int32} {Q : Int32 → Prop} (hd : decode M.2.1 pc = .ok (.invokestatic 277, 3)) (hdd : 0 + 1 ≤ d) (hw8 : (rest.map fun v => v.category).sum ≤ 8) (hw : wX6_greater a1 a2 Q) (kk : ∀ r, Q r → J G l M d c n (pc + 3) lv (.int r :: rest) (mk sh V R) post xp) : J G l M d c n pc lv (.int a2 :: .int a1 :: rest) (mk sh V R) post xp :=
  J.callS (As := [.int a1, .int a2]) (hcw := by rw [hM]; exact lw_S q2490 q2491 q152 q2492) (mX6_greater htr hw) hd rfl ⟨by decide, by decide, by show _ = some 2; decide +kernel⟩ hw8 ⟨hdd, by decide⟩ jcc0 (fun r9 g9 h9 => by obtain ⟨rfl, r, rfl, h⟩ := h9; exact kk r h) jNo.x
theorem kX6_385 {G : jG} {l : Launch} {M : jM} {d c n pc : Nat} {lv : List (Nat × Value)} {rest : List Value} {post : Option Value → List jC → Prop} {xp : String → List jC → Prop} (hM : M.1.cls = RX6) (htr : l.stackTraces = false) {sh : List jH} {V : Nat → Nat → Int32} {R : Nat → Nat → Option Nat} {t : Nat} (hT : jReg shX6 sh t) {a1 : Int32} {a2 : Int32} {a3 : Int32} {a4 : Int32} {Q : Int32 → Prop} (hd : decode M.2.1 pc = .ok (.invokevirtual 385, 3)) (hdd : 3 + 1 ≤ d) (hw8 : (rest.map fun v => v.category).sum ≤ 8) (hw : wX6_brings t V a1 a2 a3 a4 Q) (kk : ∀ r, Q r → J G l M d c n (pc + 3) lv (.int r :: rest) (mk sh V R) post xp) : J G l M d c n pc lv (.int a4 :: .int a3 :: .int a2 :: .int a1 :: .ref t :: rest) (mk sh V R) post xp :=
  J.callV (As := [.int a1, .int a2, .int a3, .int a4]) (hcw := by rw [hM]; exact lw_V q2636 q2638 qs133 q152 q2639) (mX6_brings htr hT hw) hd rfl ⟨5, _, _, mk_at (hT.at 0 rfl), rfl, rfl, fun _ => rfl⟩ ⟨rfl, by decide, by decide, by show _ = some 4; decide +kernel⟩ hw8 ⟨hdd, by decide⟩ jcc0 (fun r9 g9 h9 => by obtain ⟨rfl, r, rfl, h⟩ := h9; exact kk r h) jNo.x
-- VisitingHoursModel.fills(IIII)V
abbrev MX6_fills : jM := (yX6_fills, cX6_fills, 10, none, [])
def wX6_fills_104 (t : Nat) (a1 : Int32) (a2 : Int32) (a3 : Int32) (a4 : Int32) (Q : (Nat → Nat → Int32) → Prop) (K36 : (Nat → Nat → Int32) → Int32 → Prop) (K44 : (Nat → Nat → Int32) → Int32 → Int32 → Prop) (K73 : (Nat → Nat → Int32) → Int32 → Int32 → Int32 → Int32 → Prop) (V : Nat → Nat → Int32) (x5 : Int32) (x6 : Int32) (x7 : Int32) (x8 : Int32) (s0 : Int32) : Prop :=
  ((s0 = (-1 : Int32) → (∀ y143 : Int32, y143 = x8 + (1 : Int32) → K73 V x5 x6 x7 y143)) ∧ (¬ s0 = (-1 : Int32) → (vp_in (((256 : Int32) * (x5 + (1 : Int32))) + (x6 ||| ((1 : Int32) <<< (x8 &&& 31)))) 2304 ∧ wX6_greater x7 (s0 + (V (t + 11) (((256 : Int32) * (x5 + (1 : Int32))) + (x6 ||| ((1 : Int32) <<< (x8 &&& 31)))).toNatClampNeg)) (fun r138 => (∀ y143 : Int32, y143 = x8 + (1 : Int32) → K73 V x5 x6 r138 y143)))))
theorem rX6_fills_104 {G : jG} {l : Launch} {d c n : Nat} (htr : l.stackTraces = false) (hdd : 4 ≤ d) {sh : List jH} {t : Nat} (hT : jReg shX6 sh t) {R : Nat → Nat → Option Nat} {a1 : Int32} {a2 : Int32} {a3 : Int32} {a4 : Int32} {Q : (Nat → Nat → Int32) → Prop} {K36 : (Nat → Nat → Int32) → Int32 → Prop} {K44 : (Nat → Nat → Int32) → Int32 → Int32 → Prop} {K73 : (Nat → Nat → Int32) → Int32 → Int32 → Int32 → Int32 → Prop} (hK36 : ∀ (V : Nat → Nat → Int32) (x5 : Int32), K36 V x5 → J G l MX6_fills d c n 36 [(0, .ref t), (2, .int a2), (3, .int a3), (4, .int a4), (5, .int x5)] [] (mk sh V R) (jWv sh R Q) jNo) (hK44 : ∀ (V : Nat → Nat → Int32) (x5 : Int32) (x6 : Int32), K44 V x5 x6 → J G l MX6_fills d c n 44 [(0, .ref t), (2, .int a2), (3, .int a3), (4, .int a4), (5, .int x5), (6, .int x6)] [] (mk sh V R) (jWv sh R Q) jNo) (hK73 : ∀ (V : Nat → Nat → Int32) (x5 : Int32) (x6 : Int32) (x7 : Int32) (x8 : Int32), K73 V x5 x6 x7 x8 → J G l MX6_fills d c n 73 [(0, .ref t), (2, .int a2), (3, .int a3), (4, .int a4), (5, .int x5), (6, .int x6), (7, .int x7), (8, .int x8)] [] (mk sh V R) (jWv sh R Q) jNo) {V : Nat → Nat → Int32} {x5 : Int32} {x6 : Int32} {x7 : Int32} {x8 : Int32} {s0 : Int32} (hw : wX6_fills_104 t a1 a2 a3 a4 Q K36 K44 K73 V x5 x6 x7 x8 s0) : J G l MX6_fills d c n 104 [(0, .ref t), (2, .int a2), (3, .int a3), (4, .int a4), (5, .int x5), (6, .int x6), (7, .int x7), (8, .int x8)] [.int s0] (mk sh V R) (jWv sh R Q) jNo := by
  unfold wX6_fills_104 at hw
  refine J.istore (lv' := [(9, .int s0), (0, .ref t), (2, .int a2), (3, .int a3), (4, .int a4), (5, .int x5), (6, .int x6), (7, .int x7), (8, .int x8)]) dX6_fills_104 (by decide) rfl ?_
  refine J.iload 0 dX6_fills_106 rfl ?_
  refine J.iconst (v := (-1 : Int32)) dX6_fills_108 (by decide) ?_
  refine J.icmp_eq 143 dX6_fills_109 (by decide) ⟨fun c109 => ?_, fun c109 => ?_⟩
  · have hw := hw.1 c109
    refine J.iincN 8 (K := (1 : Int32)) (lv' := fun y143 => [(8, .int y143), (9, .int s0), (0, .ref t), (2, .int a2), (3, .int a3), (4, .int a4), (5, .int x5), (6, .int x6), (7, .int x7)]) dX6_fills_143 rfl (by decide) (by decide) (fun _ => rfl) hw (fun y143 hw => ?_)
    refine J.goto 73 dX6_fills_146 (by decide) ?_
    exact J.pick [2, 3, 4, 5, 6, 7, 8, 0] rfl (hK73 _ _ _ _ _ hw)
  · have hw := hw.2 c109
    refine J.iload 7 dX6_fills_112 rfl ?_
    refine J.iload 0 dX6_fills_114 rfl ?_
    refine J.aload_n 1 dX6_fills_116 rfl ?_
    refine gX6_44 rfl hT dX6_fills_117 ?_
    refine J.sipush (v := (256 : Int32)) dX6_fills_120 (by decide) ?_
    refine J.iload 5 dX6_fills_123 rfl ?_
    refine J.iconst (v := (1 : Int32)) dX6_fills_125 (by decide) ?_
    refine J.iadd dX6_fills_126 ?_
    refine J.imul dX6_fills_127 ?_
    refine J.iload 6 dX6_fills_128 rfl ?_
    refine J.iconst (v := (1 : Int32)) dX6_fills_130 (by decide) ?_
    refine J.iload 8 dX6_fills_131 rfl ?_
    refine J.ishl dX6_fills_133 ?_
    refine J.ior dX6_fills_134 ?_
    refine J.iadd dX6_fills_135 ?_
    obtain ⟨h136, hw⟩ := hw
    refine JV.iald dX6_fills_136 (hT.ge 11) (hT.at 11 rfl) h136 ?_
    refine J.iadd dX6_fills_137 ?_
    refine kX6_277 rfl htr dX6_fills_138 (by omega) (Nat.le_of_ble_eq_true rfl) hw (fun r138 hw => ?_)
    refine J.istore (lv' := [(7, .int r138), (9, .int s0), (0, .ref t), (2, .int a2), (3, .int a3), (4, .int a4), (5, .int x5), (6, .int x6), (8, .int x8)]) dX6_fills_141 (by decide) rfl ?_
    refine J.iincN 8 (K := (1 : Int32)) (lv' := fun y143 => [(8, .int y143), (7, .int r138), (9, .int s0), (0, .ref t), (2, .int a2), (3, .int a3), (4, .int a4), (5, .int x5), (6, .int x6)]) dX6_fills_143 rfl (by decide) (by decide) (fun _ => rfl) hw (fun y143 hw => ?_)
    refine J.goto 73 dX6_fills_146 (by decide) ?_
    exact J.pick [3, 4, 5, 6, 7, 8, 1, 0] rfl (hK73 _ _ _ _ _ hw)
def wX6_fills_73 (t : Nat) (a1 : Int32) (a2 : Int32) (a3 : Int32) (a4 : Int32) (Q : (Nat → Nat → Int32) → Prop) (K36 : (Nat → Nat → Int32) → Int32 → Prop) (K44 : (Nat → Nat → Int32) → Int32 → Int32 → Prop) : Nat → (Nat → Nat → Int32) → Int32 → Int32 → Int32 → Int32 → Prop
  | 0, _, _, _, _, _ => False
  | f + 1, V, x5, x6, x7, x8 =>
    ((a2 ≤ x8 → (vp_in (((256 : Int32) * x5) + x6) 2304 ∧ (∀ y165 : Int32, y165 = x6 + (1 : Int32) → K44 (vset V (t + 11) (((256 : Int32) * x5) + x6).toNatClampNeg x7) x5 y165))) ∧ (¬ a2 ≤ x8 → wX6_isOf x6 x8 (fun r83 => ((r83 = 0 → wX6_brings t V x5 x8 a3 a4 (fun r101 => wX6_fills_104 t a1 a2 a3 a4 Q K36 K44 (fun V x5 x6 x7 x8 => wX6_fills_73 t a1 a2 a3 a4 Q K36 K44 f V x5 x6 x7 x8) V x5 x6 x7 x8 r101)) ∧ (¬ r83 = 0 → wX6_fills_104 t a1 a2 a3 a4 Q K36 K44 (fun V x5 x6 x7 x8 => wX6_fills_73 t a1 a2 a3 a4 Q K36 K44 f V x5 x6 x7 x8) V x5 x6 x7 x8 (-1 : Int32))))))
theorem rX6_fills_73 {G : jG} {l : Launch} {d c n : Nat} (htr : l.stackTraces = false) (hdd : 4 ≤ d) {sh : List jH} {t : Nat} (hT : jReg shX6 sh t) {R : Nat → Nat → Option Nat} {a1 : Int32} {a2 : Int32} {a3 : Int32} {a4 : Int32} {Q : (Nat → Nat → Int32) → Prop} {K36 : (Nat → Nat → Int32) → Int32 → Prop} {K44 : (Nat → Nat → Int32) → Int32 → Int32 → Prop} (hK36 : ∀ (V : Nat → Nat → Int32) (x5 : Int32), K36 V x5 → J G l MX6_fills d c n 36 [(0, .ref t), (2, .int a2), (3, .int a3), (4, .int a4), (5, .int x5)] [] (mk sh V R) (jWv sh R Q) jNo) (hK44 : ∀ (V : Nat → Nat → Int32) (x5 : Int32) (x6 : Int32), K44 V x5 x6 → J G l MX6_fills d c n 44 [(0, .ref t), (2, .int a2), (3, .int a3), (4, .int a4), (5, .int x5), (6, .int x6)] [] (mk sh V R) (jWv sh R Q) jNo) : ∀ (f : Nat) (V : Nat → Nat → Int32) (x5 : Int32) (x6 : Int32) (x7 : Int32) (x8 : Int32), wX6_fills_73 t a1 a2 a3 a4 Q K36 K44 f V x5 x6 x7 x8 → J G l MX6_fills d c n 73 [(0, .ref t), (2, .int a2), (3, .int a3), (4, .int a4), (5, .int x5), (6, .int x6), (7, .int x7), (8, .int x8)] [] (mk sh V R) (jWv sh R Q) jNo := by
  intro f
  induction f with
  | zero =>
    intro V x5 x6 x7 x8 hw
    rw [wX6_fills_73] at hw
    exact hw.elim
  | succ f ih =>
    intro V x5 x6 x7 x8 hw
    rw [wX6_fills_73] at hw
    refine J.iload 7 dX6_fills_73 rfl ?_
    refine J.iload_n 1 dX6_fills_75 rfl ?_
    refine J.icmp_ge 149 dX6_fills_76 (by decide) ⟨fun c76 => ?_, fun c76 => ?_⟩
    · have hw := hw.1 c76
      refine J.aload_n 0 dX6_fills_149 rfl ?_
      refine gX6_44 rfl hT dX6_fills_150 ?_
      refine J.sipush (v := (256 : Int32)) dX6_fills_153 (by decide) ?_
      refine J.iload 4 dX6_fills_156 rfl ?_
      refine J.imul dX6_fills_158 ?_
      refine J.iload 5 dX6_fills_159 rfl ?_
      refine J.iadd dX6_fills_161 ?_
      refine J.iload 6 dX6_fills_162 rfl ?_
      obtain ⟨h164, hw⟩ := hw
      refine JV.iast dX6_fills_164 (hT.ge 11) (hT.at 11 rfl) h164 ?_
      refine J.iincN 5 (K := (1 : Int32)) (lv' := fun y165 => [(6, .int y165), (0, .ref t), (2, .int a2), (3, .int a3), (4, .int a4), (5, .int x5), (7, .int x7), (8, .int x8)]) dX6_fills_165 rfl (by decide) (by decide) (fun _ => rfl) hw (fun y165 hw => ?_)
      refine J.goto 44 dX6_fills_168 (by decide) ?_
      exact J.pick [1, 2, 3, 4, 5, 0] rfl (hK44 _ _ _ hw)
    · have hw := hw.2 c76
      refine J.iload 5 dX6_fills_79 rfl ?_
      refine J.iload 7 dX6_fills_81 rfl ?_
      refine kX6_74 rfl htr dX6_fills_83 (by omega) (Nat.le_of_ble_eq_true rfl) hw (fun r83 hw => ?_)
      refine J.if_eq 93 dX6_fills_86 (by decide) ⟨fun c86 => ?_, fun c86 => ?_⟩
      · have hw := hw.1 c86
        refine J.aload_n 0 dX6_fills_93 rfl ?_
        refine J.iload 4 dX6_fills_94 rfl ?_
        refine J.iload 7 dX6_fills_96 rfl ?_
        refine J.iload_n 2 dX6_fills_98 rfl ?_
        refine J.iload 3 dX6_fills_99 rfl ?_
        refine kX6_385 rfl htr hT dX6_fills_101 (by omega) (Nat.le_of_ble_eq_true rfl) hw (fun r101 hw => ?_)
        exact (rX6_fills_104 htr hdd hT hK36 hK44 ih hw)
      · have hw := hw.2 c86
        refine J.iconst (v := (-1 : Int32)) dX6_fills_89 (by decide) ?_
        refine J.goto 104 dX6_fills_90 (by decide) ?_
        exact (rX6_fills_104 htr hdd hT hK36 hK44 ih hw)
def wX6_fills_44 (t : Nat) (a1 : Int32) (a2 : Int32) (a3 : Int32) (a4 : Int32) (Q : (Nat → Nat → Int32) → Prop) (K36 : (Nat → Nat → Int32) → Int32 → Prop) : Nat → (Nat → Nat → Int32) → Int32 → Int32 → Prop
  | 0, _, _, _ => False
  | f + 1, V, x5, x6 =>
    (((256 : Int32) ≤ x6 → (∀ y171 : Int32, y171 = x5 + (-1 : Int32) → K36 V y171)) ∧ (¬ (256 : Int32) ≤ x6 → (vp_in (((256 : Int32) * (x5 + (1 : Int32))) + x6) 2304 ∧ (∀ y68 : Int32, y68 = (V (t + 11) (((256 : Int32) * (x5 + (1 : Int32))) + x6).toNatClampNeg) → (∃ f9, wX6_fills_73 t a1 a2 a3 a4 Q K36 (fun V x5 x6 => wX6_fills_44 t a1 a2 a3 a4 Q K36 f V x5 x6) f9 V x5 x6 y68 (0 : Int32))))))
theorem rX6_fills_44 {G : jG} {l : Launch} {d c n : Nat} (htr : l.stackTraces = false) (hdd : 4 ≤ d) {sh : List jH} {t : Nat} (hT : jReg shX6 sh t) {R : Nat → Nat → Option Nat} {a1 : Int32} {a2 : Int32} {a3 : Int32} {a4 : Int32} {Q : (Nat → Nat → Int32) → Prop} {K36 : (Nat → Nat → Int32) → Int32 → Prop} (hK36 : ∀ (V : Nat → Nat → Int32) (x5 : Int32), K36 V x5 → J G l MX6_fills d c n 36 [(0, .ref t), (2, .int a2), (3, .int a3), (4, .int a4), (5, .int x5)] [] (mk sh V R) (jWv sh R Q) jNo) : ∀ (f : Nat) (V : Nat → Nat → Int32) (x5 : Int32) (x6 : Int32), wX6_fills_44 t a1 a2 a3 a4 Q K36 f V x5 x6 → J G l MX6_fills d c n 44 [(0, .ref t), (2, .int a2), (3, .int a3), (4, .int a4), (5, .int x5), (6, .int x6)] [] (mk sh V R) (jWv sh R Q) jNo := by
  intro f
  induction f with
  | zero =>
    intro V x5 x6 hw
    rw [wX6_fills_44] at hw
    exact hw.elim
  | succ f ih =>
    intro V x5 x6 hw
    rw [wX6_fills_44] at hw
    refine J.iload 5 dX6_fills_44 rfl ?_
    refine J.sipush (v := (256 : Int32)) dX6_fills_46 (by decide) ?_
    refine J.icmp_ge 171 dX6_fills_49 (by decide) ⟨fun c49 => ?_, fun c49 => ?_⟩
    · have hw := hw.1 c49
      refine J.iincN 4 (K := (-1 : Int32)) (lv' := fun y171 => [(5, .int y171), (0, .ref t), (2, .int a2), (3, .int a3), (4, .int a4), (6, .int x6)]) dX6_fills_171 rfl (by decide) (by decide) (fun _ => rfl) hw (fun y171 hw => ?_)
      refine J.goto 36 dX6_fills_174 (by decide) ?_
      exact J.pick [1, 2, 3, 4, 0] rfl (hK36 _ _ hw)
    · have hw := hw.2 c49
      refine J.aload_n 0 dX6_fills_52 rfl ?_
      refine gX6_44 rfl hT dX6_fills_53 ?_
      refine J.sipush (v := (256 : Int32)) dX6_fills_56 (by decide) ?_
      refine J.iload 4 dX6_fills_59 rfl ?_
      refine J.iconst (v := (1 : Int32)) dX6_fills_61 (by decide) ?_
      refine J.iadd dX6_fills_62 ?_
      refine J.imul dX6_fills_63 ?_
      refine J.iload 5 dX6_fills_64 rfl ?_
      refine J.iadd dX6_fills_66 ?_
      obtain ⟨h67, hw⟩ := hw
      refine JV.iald dX6_fills_67 (hT.ge 11) (hT.at 11 rfl) h67 ?_
      refine J.nm hw (fun y68 hw => ?_)
      refine J.istore (lv' := [(7, .int y68), (0, .ref t), (2, .int a2), (3, .int a3), (4, .int a4), (5, .int x5), (6, .int x6)]) dX6_fills_68 (by decide) rfl ?_
      refine J.iconst (v := (0 : Int32)) dX6_fills_70 (by decide) ?_
      refine J.istore (lv' := [(8, .int (0 : Int32)), (7, .int y68), (0, .ref t), (2, .int a2), (3, .int a3), (4, .int a4), (5, .int x5), (6, .int x6)]) dX6_fills_71 (by decide) rfl ?_
      obtain ⟨f9, hw⟩ := hw
      exact J.pick [2, 3, 4, 5, 6, 7, 1, 0] rfl (rX6_fills_73 htr hdd hT hK36 ih f9 _ _ _ _ _ hw)
def wX6_fills_36 (t : Nat) (a1 : Int32) (a2 : Int32) (a3 : Int32) (a4 : Int32) (Q : (Nat → Nat → Int32) → Prop) : Nat → (Nat → Nat → Int32) → Int32 → Prop
  | 0, _, _ => False
  | f + 1, V, x5 =>
    ((x5 < 0 → Q V) ∧ (¬ x5 < 0 → (∃ f9, wX6_fills_44 t a1 a2 a3 a4 Q (fun V x5 => wX6_fills_36 t a1 a2 a3 a4 Q f V x5) f9 V x5 (0 : Int32))))
theorem rX6_fills_36 {G : jG} {l : Launch} {d c n : Nat} (htr : l.stackTraces = false) (hdd : 4 ≤ d) {sh : List jH} {t : Nat} (hT : jReg shX6 sh t) {R : Nat → Nat → Option Nat} {a1 : Int32} {a2 : Int32} {a3 : Int32} {a4 : Int32} {Q : (Nat → Nat → Int32) → Prop} : ∀ (f : Nat) (V : Nat → Nat → Int32) (x5 : Int32), wX6_fills_36 t a1 a2 a3 a4 Q f V x5 → J G l MX6_fills d c n 36 [(0, .ref t), (2, .int a2), (3, .int a3), (4, .int a4), (5, .int x5)] [] (mk sh V R) (jWv sh R Q) jNo := by
  intro f
  induction f with
  | zero =>
    intro V x5 hw
    rw [wX6_fills_36] at hw
    exact hw.elim
  | succ f ih =>
    intro V x5 hw
    rw [wX6_fills_36] at hw
    refine J.iload 4 dX6_fills_36 rfl ?_
    refine J.if_lt 177 dX6_fills_38 (by decide) ⟨fun c38 => ?_, fun c38 => ?_⟩
    · have hw := hw.1 c38
      exact J.vret rfl dX6_fills_177 ⟨_, rfl, rfl, hw⟩
    · have hw := hw.2 c38
      refine J.iconst (v := (0 : Int32)) dX6_fills_41 (by decide) ?_
      refine J.istore (lv' := [(6, .int (0 : Int32)), (0, .ref t), (2, .int a2), (3, .int a3), (4, .int a4), (5, .int x5)]) dX6_fills_42 (by decide) rfl ?_
      obtain ⟨f9, hw⟩ := hw
      exact J.pick [1, 2, 3, 4, 5, 0] rfl (rX6_fills_44 htr hdd hT ih f9 _ _ _ hw)
def wX6_fills_3 (t : Nat) (a1 : Int32) (a2 : Int32) (a3 : Int32) (a4 : Int32) (Q : (Nat → Nat → Int32) → Prop) : Nat → (Nat → Nat → Int32) → Int32 → Prop
  | 0, _, _ => False
  | f + 1, V, x5 =>
    (((256 : Int32) ≤ x5 → (∀ y34 : Int32, y34 = (a1 - (1 : Int32)) → (∃ f9, wX6_fills_36 t a1 a2 a3 a4 Q f9 V y34))) ∧ (¬ (256 : Int32) ≤ x5 → (vp_in (((256 : Int32) * a1) + x5) 2304 ∧ (∀ y25 : Int32, y25 = x5 + (1 : Int32) → wX6_fills_3 t a1 a2 a3 a4 Q f (vset V (t + 11) (((256 : Int32) * a1) + x5).toNatClampNeg (0 : Int32)) y25))))
theorem rX6_fills_3 {G : jG} {l : Launch} {d c n : Nat} (htr : l.stackTraces = false) (hdd : 4 ≤ d) {sh : List jH} {t : Nat} (hT : jReg shX6 sh t) {R : Nat → Nat → Option Nat} {a1 : Int32} {a2 : Int32} {a3 : Int32} {a4 : Int32} {Q : (Nat → Nat → Int32) → Prop} : ∀ (f : Nat) (V : Nat → Nat → Int32) (x5 : Int32), wX6_fills_3 t a1 a2 a3 a4 Q f V x5 → J G l MX6_fills d c n 3 [(0, .ref t), (1, .int a1), (2, .int a2), (3, .int a3), (4, .int a4), (5, .int x5)] [] (mk sh V R) (jWv sh R Q) jNo := by
  intro f
  induction f with
  | zero =>
    intro V x5 hw
    rw [wX6_fills_3] at hw
    exact hw.elim
  | succ f ih =>
    intro V x5 hw
    rw [wX6_fills_3] at hw
    refine J.iload 5 dX6_fills_3 rfl ?_
    refine J.sipush (v := (256 : Int32)) dX6_fills_5 (by decide) ?_
    refine J.icmp_ge 31 dX6_fills_8 (by decide) ⟨fun c8 => ?_, fun c8 => ?_⟩
    · have hw := hw.1 c8
      refine J.iload_n 1 dX6_fills_31 rfl ?_
      refine J.iconst (v := (1 : Int32)) dX6_fills_32 (by decide) ?_
      refine J.isub dX6_fills_33 ?_
      refine J.nm hw (fun y34 hw => ?_)
      refine J.istore (lv' := [(5, .int y34), (0, .ref t), (1, .int a1), (2, .int a2), (3, .int a3), (4, .int a4)]) dX6_fills_34 (by decide) rfl ?_
      obtain ⟨f9, hw⟩ := hw
      exact J.pick [1, 3, 4, 5, 0] rfl (rX6_fills_36 htr hdd hT f9 _ _ hw)
    · have hw := hw.2 c8
      refine J.aload_n 0 dX6_fills_11 rfl ?_
      refine gX6_44 rfl hT dX6_fills_12 ?_
      refine J.sipush (v := (256 : Int32)) dX6_fills_15 (by decide) ?_
      refine J.iload_n 1 dX6_fills_18 rfl ?_
      refine J.imul dX6_fills_19 ?_
      refine J.iload 5 dX6_fills_20 rfl ?_
      refine J.iadd dX6_fills_22 ?_
      refine J.iconst (v := (0 : Int32)) dX6_fills_23 (by decide) ?_
      obtain ⟨h24, hw⟩ := hw
      refine JV.iast dX6_fills_24 (hT.ge 11) (hT.at 11 rfl) h24 ?_
      refine J.iincN 5 (K := (1 : Int32)) (lv' := fun y25 => [(5, .int y25), (0, .ref t), (1, .int a1), (2, .int a2), (3, .int a3), (4, .int a4)]) dX6_fills_25 rfl (by decide) (by decide) (fun _ => rfl) hw (fun y25 hw => ?_)
      refine J.goto 3 dX6_fills_28 (by decide) ?_
      exact J.pick [1, 2, 3, 4, 5, 0] rfl (ih _ _ hw)
def wX6_fills (t : Nat) (V : Nat → Nat → Int32) (a1 : Int32) (a2 : Int32) (a3 : Int32) (a4 : Int32) (Q : (Nat → Nat → Int32) → Prop) : Prop :=
  (∃ f9, wX6_fills_3 t a1 a2 a3 a4 Q f9 V (0 : Int32))
theorem mX6_fills {G : jG} {l : Launch} (htr : l.stackTraces = false) {sh : List jH} {V : Nat → Nat → Int32} {R : Nat → Nat → Option Nat} {t : Nat} (hT : jReg shX6 sh t) {a1 : Int32} {a2 : Int32} {a3 : Int32} {a4 : Int32} {Q : (Nat → Nat → Int32) → Prop} (hw : wX6_fills t V a1 a2 a3 a4 Q) : JM G l MX6_fills 4 0 0 [.ref t, .int a1, .int a2, .int a3, .int a4] (mk sh V R) (jWv sh R Q) jNo := by
  refine JM.intro (by decide) rfl htr (Nat.le_of_ble_eq_true rfl) ?_
  show J G l MX6_fills 4 0 0 0 [(0, .ref t), (1, .int a1), (2, .int a2), (3, .int a3), (4, .int a4)] [] (mk sh V R) _ _
  unfold wX6_fills at hw
  refine J.iconst (v := (0 : Int32)) dX6_fills_0 (by decide) ?_
  refine J.istore (lv' := [(5, .int (0 : Int32)), (0, .ref t), (1, .int a1), (2, .int a2), (3, .int a3), (4, .int a4)]) dX6_fills_1 (by decide) rfl ?_
  obtain ⟨f9, hw⟩ := hw
  exact J.pick [1, 2, 3, 4, 5, 0] rfl (rX6_fills_3 htr (Nat.le_refl _) hT f9 _ _ hw)
-- VisitingHoursModel.firstOf(IIII)I
abbrev MX6_firstOf : jM := (yX6_firstOf, cX6_firstOf, 10, some .int, [])
def wX6_firstOf_89 (t : Nat) (V : Nat → Nat → Int32) (a1 : Int32) (a2 : Int32) (a3 : Int32) (a4 : Int32) (Q : Int32 → Prop) (K9 : Int32 → Int32 → Int32 → Prop) (K59 : Int32 → Int32 → Int32 → Int32 → Prop) (x5 : Int32) (x6 : Int32) (x7 : Int32) (x8 : Int32) (s0 : Int32) : Prop :=
  ((s0 = (-1 : Int32) → (∀ y142 : Int32, y142 = x8 + (-1 : Int32) → K59 x5 x6 x7 y142)) ∧ (¬ s0 = (-1 : Int32) → (vp_in (((256 : Int32) * (x7 + (1 : Int32))) + (x5 ||| ((1 : Int32) <<< (x8 &&& 31)))) 2304 ∧ (vp_in (((256 : Int32) * x7) + x5) 2304 ∧ ((¬ (s0 + (V (t + 11) (((256 : Int32) * (x7 + (1 : Int32))) + (x5 ||| ((1 : Int32) <<< (x8 &&& 31)))).toNatClampNeg)) = (V (t + 11) (((256 : Int32) * x7) + x5).toNatClampNeg) → (∀ y142 : Int32, y142 = x8 + (-1 : Int32) → K59 x5 x6 x7 y142)) ∧ ((s0 + (V (t + 11) (((256 : Int32) * (x7 + (1 : Int32))) + (x5 ||| ((1 : Int32) <<< (x8 &&& 31)))).toNatClampNeg)) = (V (t + 11) (((256 : Int32) * x7) + x5).toNatClampNeg) → (∀ y142 : Int32, y142 = x8 + (-1 : Int32) → K59 x5 x8 x7 y142)))))))
theorem rX6_firstOf_89 {G : jG} {l : Launch} {d c n : Nat} (htr : l.stackTraces = false) (hdd : 4 ≤ d) {sh : List jH} {t : Nat} (hT : jReg shX6 sh t) {R : Nat → Nat → Option Nat} {V : Nat → Nat → Int32} {a1 : Int32} {a2 : Int32} {a3 : Int32} {a4 : Int32} {Q : Int32 → Prop} {K9 : Int32 → Int32 → Int32 → Prop} {K59 : Int32 → Int32 → Int32 → Int32 → Prop} (hK9 : ∀ (x5 : Int32) (x6 : Int32) (x7 : Int32), K9 x5 x6 x7 → J G l MX6_firstOf d c n 9 [(0, .ref t), (1, .int a1), (2, .int a2), (3, .int a3), (4, .int a4), (5, .int x5), (6, .int x6), (7, .int x7)] [] (mk sh V R) (jRd (mk sh V R) Q) jNo) (hK59 : ∀ (x5 : Int32) (x6 : Int32) (x7 : Int32) (x8 : Int32), K59 x5 x6 x7 x8 → J G l MX6_firstOf d c n 59 [(0, .ref t), (1, .int a1), (2, .int a2), (3, .int a3), (4, .int a4), (5, .int x5), (6, .int x6), (7, .int x7), (8, .int x8)] [] (mk sh V R) (jRd (mk sh V R) Q) jNo) {x5 : Int32} {x6 : Int32} {x7 : Int32} {x8 : Int32} {s0 : Int32} (hw : wX6_firstOf_89 t V a1 a2 a3 a4 Q K9 K59 x5 x6 x7 x8 s0) : J G l MX6_firstOf d c n 89 [(0, .ref t), (1, .int a1), (2, .int a2), (3, .int a3), (4, .int a4), (5, .int x5), (6, .int x6), (7, .int x7), (8, .int x8)] [.int s0] (mk sh V R) (jRd (mk sh V R) Q) jNo := by
  unfold wX6_firstOf_89 at hw
  refine J.istore (lv' := [(9, .int s0), (0, .ref t), (1, .int a1), (2, .int a2), (3, .int a3), (4, .int a4), (5, .int x5), (6, .int x6), (7, .int x7), (8, .int x8)]) dX6_firstOf_89 (by decide) rfl ?_
  refine J.iload 0 dX6_firstOf_91 rfl ?_
  refine J.iconst (v := (-1 : Int32)) dX6_firstOf_93 (by decide) ?_
  refine J.icmp_eq 142 dX6_firstOf_94 (by decide) ⟨fun c94 => ?_, fun c94 => ?_⟩
  · have hw := hw.1 c94
    refine J.iincN 9 (K := (-1 : Int32)) (lv' := fun y142 => [(8, .int y142), (9, .int s0), (0, .ref t), (1, .int a1), (2, .int a2), (3, .int a3), (4, .int a4), (5, .int x5), (6, .int x6), (7, .int x7)]) dX6_firstOf_142 rfl (by decide) (by decide) (fun _ => rfl) hw (fun y142 hw => ?_)
    refine J.goto 59 dX6_firstOf_145 (by decide) ?_
    exact J.pick [2, 3, 4, 5, 6, 7, 8, 9, 0] rfl (hK59 _ _ _ _ hw)
  · have hw := hw.2 c94
    refine J.iload 0 dX6_firstOf_97 rfl ?_
    refine J.aload_n 1 dX6_firstOf_99 rfl ?_
    refine gX6_44 rfl hT dX6_firstOf_100 ?_
    refine J.sipush (v := (256 : Int32)) dX6_firstOf_103 (by decide) ?_
    refine J.iload 8 dX6_firstOf_106 rfl ?_
    refine J.iconst (v := (1 : Int32)) dX6_firstOf_108 (by decide) ?_
    refine J.iadd dX6_firstOf_109 ?_
    refine J.imul dX6_firstOf_110 ?_
    refine J.iload 6 dX6_firstOf_111 rfl ?_
    refine J.iconst (v := (1 : Int32)) dX6_firstOf_113 (by decide) ?_
    refine J.iload 9 dX6_firstOf_114 rfl ?_
    refine J.ishl dX6_firstOf_116 ?_
    refine J.ior dX6_firstOf_117 ?_
    refine J.iadd dX6_firstOf_118 ?_
    obtain ⟨h119, hw⟩ := hw
    refine JV.iald dX6_firstOf_119 (hT.ge 11) (hT.at 11 rfl) h119 ?_
    refine J.iadd dX6_firstOf_120 ?_
    refine J.aload_n 1 dX6_firstOf_121 rfl ?_
    refine gX6_44 rfl hT dX6_firstOf_122 ?_
    refine J.sipush (v := (256 : Int32)) dX6_firstOf_125 (by decide) ?_
    refine J.iload 8 dX6_firstOf_128 rfl ?_
    refine J.imul dX6_firstOf_130 ?_
    refine J.iload 6 dX6_firstOf_131 rfl ?_
    refine J.iadd dX6_firstOf_133 ?_
    obtain ⟨h134, hw⟩ := hw
    refine JV.iald dX6_firstOf_134 (hT.ge 11) (hT.at 11 rfl) h134 ?_
    refine J.icmp_ne 142 dX6_firstOf_135 (by decide) ⟨fun c135 => ?_, fun c135 => ?_⟩
    · have hw := hw.1 c135
      refine J.iincN 9 (K := (-1 : Int32)) (lv' := fun y142 => [(8, .int y142), (9, .int s0), (0, .ref t), (1, .int a1), (2, .int a2), (3, .int a3), (4, .int a4), (5, .int x5), (6, .int x6), (7, .int x7)]) dX6_firstOf_142 rfl (by decide) (by decide) (fun _ => rfl) hw (fun y142 hw => ?_)
      refine J.goto 59 dX6_firstOf_145 (by decide) ?_
      exact J.pick [2, 3, 4, 5, 6, 7, 8, 9, 0] rfl (hK59 _ _ _ _ hw)
    · have hw := hw.2 c135
      refine J.iload 9 dX6_firstOf_138 rfl ?_
      refine J.istore (lv' := [(6, .int x8), (9, .int s0), (0, .ref t), (1, .int a1), (2, .int a2), (3, .int a3), (4, .int a4), (5, .int x5), (7, .int x7), (8, .int x8)]) dX6_firstOf_140 (by decide) rfl ?_
      refine J.iincN 9 (K := (-1 : Int32)) (lv' := fun y142 => [(8, .int y142), (6, .int x8), (9, .int s0), (0, .ref t), (1, .int a1), (2, .int a2), (3, .int a3), (4, .int a4), (5, .int x5), (7, .int x7)]) dX6_firstOf_142 rfl (by decide) (by decide) (fun _ => rfl) hw (fun y142 hw => ?_)
      refine J.goto 59 dX6_firstOf_145 (by decide) ?_
      exact J.pick [3, 4, 5, 6, 7, 8, 1, 9, 0] rfl (hK59 _ _ _ _ hw)
def wX6_firstOf_59 (t : Nat) (V : Nat → Nat → Int32) (a1 : Int32) (a2 : Int32) (a3 : Int32) (a4 : Int32) (Q : Int32 → Prop) (K9 : Int32 → Int32 → Int32 → Prop) : Nat → Int32 → Int32 → Int32 → Int32 → Prop
  | 0, _, _, _, _ => False
  | f + 1, x5, x6, x7, x8 =>
    ((x8 < 0 → (∀ y155 : Int32, y155 = (x5 ||| ((1 : Int32) <<< (x6 &&& 31))) → (∀ y157 : Int32, y157 = x7 + (1 : Int32) → K9 y155 x6 y157))) ∧ (¬ x8 < 0 → wX6_isOf x5 x8 (fun r68 => ((r68 = 0 → wX6_brings t V x7 x8 a3 a4 (fun r86 => wX6_firstOf_89 t V a1 a2 a3 a4 Q K9 (fun x5 x6 x7 x8 => wX6_firstOf_59 t V a1 a2 a3 a4 Q K9 f x5 x6 x7 x8) x5 x6 x7 x8 r86)) ∧ (¬ r68 = 0 → wX6_firstOf_89 t V a1 a2 a3 a4 Q K9 (fun x5 x6 x7 x8 => wX6_firstOf_59 t V a1 a2 a3 a4 Q K9 f x5 x6 x7 x8) x5 x6 x7 x8 (-1 : Int32))))))
theorem rX6_firstOf_59 {G : jG} {l : Launch} {d c n : Nat} (htr : l.stackTraces = false) (hdd : 4 ≤ d) {sh : List jH} {t : Nat} (hT : jReg shX6 sh t) {R : Nat → Nat → Option Nat} {V : Nat → Nat → Int32} {a1 : Int32} {a2 : Int32} {a3 : Int32} {a4 : Int32} {Q : Int32 → Prop} {K9 : Int32 → Int32 → Int32 → Prop} (hK9 : ∀ (x5 : Int32) (x6 : Int32) (x7 : Int32), K9 x5 x6 x7 → J G l MX6_firstOf d c n 9 [(0, .ref t), (1, .int a1), (2, .int a2), (3, .int a3), (4, .int a4), (5, .int x5), (6, .int x6), (7, .int x7)] [] (mk sh V R) (jRd (mk sh V R) Q) jNo) : ∀ (f : Nat) (x5 : Int32) (x6 : Int32) (x7 : Int32) (x8 : Int32), wX6_firstOf_59 t V a1 a2 a3 a4 Q K9 f x5 x6 x7 x8 → J G l MX6_firstOf d c n 59 [(0, .ref t), (1, .int a1), (2, .int a2), (3, .int a3), (4, .int a4), (5, .int x5), (6, .int x6), (7, .int x7), (8, .int x8)] [] (mk sh V R) (jRd (mk sh V R) Q) jNo := by
  intro f
  induction f with
  | zero =>
    intro x5 x6 x7 x8 hw
    rw [wX6_firstOf_59] at hw
    exact hw.elim
  | succ f ih =>
    intro x5 x6 x7 x8 hw
    rw [wX6_firstOf_59] at hw
    refine J.iload 8 dX6_firstOf_59 rfl ?_
    refine J.if_lt 148 dX6_firstOf_61 (by decide) ⟨fun c61 => ?_, fun c61 => ?_⟩
    · have hw := hw.1 c61
      refine J.iload 5 dX6_firstOf_148 rfl ?_
      refine J.iconst (v := (1 : Int32)) dX6_firstOf_150 (by decide) ?_
      refine J.iload 6 dX6_firstOf_151 rfl ?_
      refine J.ishl dX6_firstOf_153 ?_
      refine J.ior dX6_firstOf_154 ?_
      refine J.nm hw (fun y155 hw => ?_)
      refine J.istore (lv' := [(5, .int y155), (0, .ref t), (1, .int a1), (2, .int a2), (3, .int a3), (4, .int a4), (6, .int x6), (7, .int x7), (8, .int x8)]) dX6_firstOf_155 (by decide) rfl ?_
      refine J.iincN 7 (K := (1 : Int32)) (lv' := fun y157 => [(7, .int y157), (5, .int y155), (0, .ref t), (1, .int a1), (2, .int a2), (3, .int a3), (4, .int a4), (6, .int x6), (8, .int x8)]) dX6_firstOf_157 rfl (by decide) (by decide) (fun _ => rfl) hw (fun y157 hw => ?_)
      refine J.goto 9 dX6_firstOf_160 (by decide) ?_
      exact J.pick [2, 3, 4, 5, 6, 1, 7, 0] rfl (hK9 _ _ _ hw)
    · have hw := hw.2 c61
      refine J.iload 5 dX6_firstOf_64 rfl ?_
      refine J.iload 8 dX6_firstOf_66 rfl ?_
      refine kX6_74 rfl htr dX6_firstOf_68 (by omega) (Nat.le_of_ble_eq_true rfl) hw (fun r68 hw => ?_)
      refine J.if_eq 78 dX6_firstOf_71 (by decide) ⟨fun c71 => ?_, fun c71 => ?_⟩
      · have hw := hw.1 c71
        refine J.aload_n 0 dX6_firstOf_78 rfl ?_
        refine J.iload 7 dX6_firstOf_79 rfl ?_
        refine J.iload 8 dX6_firstOf_81 rfl ?_
        refine J.iload_n 3 dX6_firstOf_83 rfl ?_
        refine J.iload 4 dX6_firstOf_84 rfl ?_
        refine kX6_385 rfl htr hT dX6_firstOf_86 (by omega) (Nat.le_of_ble_eq_true rfl) hw (fun r86 hw => ?_)
        exact (rX6_firstOf_89 htr hdd hT hK9 ih hw)
      · have hw := hw.2 c71
        refine J.iconst (v := (-1 : Int32)) dX6_firstOf_74 (by decide) ?_
        refine J.goto 89 dX6_firstOf_75 (by decide) ?_
        exact (rX6_firstOf_89 htr hdd hT hK9 ih hw)
def wX6_firstOf_9 (t : Nat) (V : Nat → Nat → Int32) (a1 : Int32) (a2 : Int32) (a3 : Int32) (a4 : Int32) (Q : Int32 → Prop) : Nat → Int32 → Int32 → Int32 → Prop
  | 0, _, _, _ => False
  | f + 1, x5, x6, x7 =>
    ((a1 < x7 → Q x6) ∧ (¬ a1 < x7 → (vp_in (((256 : Int32) * (x7 + (1 : Int32))) + x5) 2304 ∧ (vp_in (((256 : Int32) * x7) + x5) 2304 ∧ ((¬ (V (t + 11) (((256 : Int32) * (x7 + (1 : Int32))) + x5).toNatClampNeg) = (V (t + 11) (((256 : Int32) * x7) + x5).toNatClampNeg) → (∀ y57 : Int32, y57 = (a2 - (1 : Int32)) → (∃ f9, wX6_firstOf_59 t V a1 a2 a3 a4 Q (fun x5 x6 x7 => wX6_firstOf_9 t V a1 a2 a3 a4 Q f x5 x6 x7) f9 x5 (-1 : Int32) x7 y57))) ∧ ((V (t + 11) (((256 : Int32) * (x7 + (1 : Int32))) + x5).toNatClampNeg) = (V (t + 11) (((256 : Int32) * x7) + x5).toNatClampNeg) → (∀ y157 : Int32, y157 = x7 + (1 : Int32) → wX6_firstOf_9 t V a1 a2 a3 a4 Q f x5 (-1 : Int32) y157)))))))
theorem rX6_firstOf_9 {G : jG} {l : Launch} {d c n : Nat} (htr : l.stackTraces = false) (hdd : 4 ≤ d) {sh : List jH} {t : Nat} (hT : jReg shX6 sh t) {R : Nat → Nat → Option Nat} {V : Nat → Nat → Int32} {a1 : Int32} {a2 : Int32} {a3 : Int32} {a4 : Int32} {Q : Int32 → Prop} : ∀ (f : Nat) (x5 : Int32) (x6 : Int32) (x7 : Int32), wX6_firstOf_9 t V a1 a2 a3 a4 Q f x5 x6 x7 → J G l MX6_firstOf d c n 9 [(0, .ref t), (1, .int a1), (2, .int a2), (3, .int a3), (4, .int a4), (5, .int x5), (6, .int x6), (7, .int x7)] [] (mk sh V R) (jRd (mk sh V R) Q) jNo := by
  intro f
  induction f with
  | zero =>
    intro x5 x6 x7 hw
    rw [wX6_firstOf_9] at hw
    exact hw.elim
  | succ f ih =>
    intro x5 x6 x7 hw
    rw [wX6_firstOf_9] at hw
    refine J.iload 7 dX6_firstOf_9 rfl ?_
    refine J.iload_n 1 dX6_firstOf_11 rfl ?_
    refine J.icmp_gt 163 dX6_firstOf_12 (by decide) ⟨fun c12 => ?_, fun c12 => ?_⟩
    · have hw := hw.1 c12
      refine J.iload 6 dX6_firstOf_163 rfl ?_
      exact J.iret rfl dX6_firstOf_165 ⟨rfl, _, rfl, hw⟩
    · have hw := hw.2 c12
      refine J.iconst (v := (-1 : Int32)) dX6_firstOf_15 (by decide) ?_
      refine J.istore (lv' := [(6, .int (-1 : Int32)), (0, .ref t), (1, .int a1), (2, .int a2), (3, .int a3), (4, .int a4), (5, .int x5), (7, .int x7)]) dX6_firstOf_16 (by decide) rfl ?_
      refine J.aload_n 1 dX6_firstOf_18 rfl ?_
      refine gX6_44 rfl hT dX6_firstOf_19 ?_
      refine J.sipush (v := (256 : Int32)) dX6_firstOf_22 (by decide) ?_
      refine J.iload 7 dX6_firstOf_25 rfl ?_
      refine J.iconst (v := (1 : Int32)) dX6_firstOf_27 (by decide) ?_
      refine J.iadd dX6_firstOf_28 ?_
      refine J.imul dX6_firstOf_29 ?_
      refine J.iload 6 dX6_firstOf_30 rfl ?_
      refine J.iadd dX6_firstOf_32 ?_
      obtain ⟨h33, hw⟩ := hw
      refine JV.iald dX6_firstOf_33 (hT.ge 11) (hT.at 11 rfl) h33 ?_
      refine J.aload_n 1 dX6_firstOf_34 rfl ?_
      refine gX6_44 rfl hT dX6_firstOf_35 ?_
      refine J.sipush (v := (256 : Int32)) dX6_firstOf_38 (by decide) ?_
      refine J.iload 7 dX6_firstOf_41 rfl ?_
      refine J.imul dX6_firstOf_43 ?_
      refine J.iload 6 dX6_firstOf_44 rfl ?_
      refine J.iadd dX6_firstOf_46 ?_
      obtain ⟨h47, hw⟩ := hw
      refine JV.iald dX6_firstOf_47 (hT.ge 11) (hT.at 11 rfl) h47 ?_
      refine J.icmp_ne 54 dX6_firstOf_48 (by decide) ⟨fun c48 => ?_, fun c48 => ?_⟩
      · have hw := hw.1 c48
        refine J.iload_n 3 dX6_firstOf_54 rfl ?_
        refine J.iconst (v := (1 : Int32)) dX6_firstOf_55 (by decide) ?_
        refine J.isub dX6_firstOf_56 ?_
        refine J.nm hw (fun y57 hw => ?_)
        refine J.istore (lv' := [(8, .int y57), (6, .int (-1 : Int32)), (0, .ref t), (1, .int a1), (2, .int a2), (3, .int a3), (4, .int a4), (5, .int x5), (7, .int x7)]) dX6_firstOf_57 (by decide) rfl ?_
        obtain ⟨f9, hw⟩ := hw
        exact J.pick [2, 3, 4, 5, 6, 7, 1, 8, 0] rfl (rX6_firstOf_59 htr hdd hT ih f9 _ _ _ _ hw)
      · have hw := hw.2 c48
        refine J.goto 157 dX6_firstOf_51 (by decide) ?_
        refine J.iincN 7 (K := (1 : Int32)) (lv' := fun y157 => [(7, .int y157), (6, .int (-1 : Int32)), (0, .ref t), (1, .int a1), (2, .int a2), (3, .int a3), (4, .int a4), (5, .int x5)]) dX6_firstOf_157 rfl (by decide) (by decide) (fun _ => rfl) hw (fun y157 hw => ?_)
        refine J.goto 9 dX6_firstOf_160 (by decide) ?_
        exact J.pick [2, 3, 4, 5, 6, 7, 1, 0] rfl (ih _ _ _ hw)
def wX6_firstOf (t : Nat) (V : Nat → Nat → Int32) (a1 : Int32) (a2 : Int32) (a3 : Int32) (a4 : Int32) (Q : Int32 → Prop) : Prop :=
  (∃ f9, wX6_firstOf_9 t V a1 a2 a3 a4 Q f9 (0 : Int32) (-1 : Int32) (0 : Int32))
theorem mX6_firstOf {G : jG} {l : Launch} (htr : l.stackTraces = false) {sh : List jH} {V : Nat → Nat → Int32} {R : Nat → Nat → Option Nat} {t : Nat} (hT : jReg shX6 sh t) {a1 : Int32} {a2 : Int32} {a3 : Int32} {a4 : Int32} {Q : Int32 → Prop} (hw : wX6_firstOf t V a1 a2 a3 a4 Q) : JM G l MX6_firstOf 4 0 0 [.ref t, .int a1, .int a2, .int a3, .int a4] (mk sh V R) (jRd (mk sh V R) Q) jNo := by
  refine JM.intro (by decide) rfl htr (Nat.le_of_ble_eq_true rfl) ?_
  show J G l MX6_firstOf 4 0 0 0 [(0, .ref t), (1, .int a1), (2, .int a2), (3, .int a3), (4, .int a4)] [] (mk sh V R) _ _
  unfold wX6_firstOf at hw
  refine J.iconst (v := (0 : Int32)) dX6_firstOf_0 (by decide) ?_
  refine J.istore (lv' := [(5, .int (0 : Int32)), (0, .ref t), (1, .int a1), (2, .int a2), (3, .int a3), (4, .int a4)]) dX6_firstOf_1 (by decide) rfl ?_
  refine J.iconst (v := (-1 : Int32)) dX6_firstOf_3 (by decide) ?_
  refine J.istore (lv' := [(6, .int (-1 : Int32)), (5, .int (0 : Int32)), (0, .ref t), (1, .int a1), (2, .int a2), (3, .int a3), (4, .int a4)]) dX6_firstOf_4 (by decide) rfl ?_
  refine J.iconst (v := (0 : Int32)) dX6_firstOf_6 (by decide) ?_
  refine J.istore (lv' := [(7, .int (0 : Int32)), (6, .int (-1 : Int32)), (5, .int (0 : Int32)), (0, .ref t), (1, .int a1), (2, .int a2), (3, .int a3), (4, .int a4)]) dX6_firstOf_7 (by decide) rfl ?_
  obtain ⟨f9, hw⟩ := hw
  exact J.pick [3, 4, 5, 6, 7, 2, 1, 0] rfl (rX6_firstOf_9 htr (Nat.le_refl _) hT f9 _ _ _ hw)
theorem gX6_54 {G : jG} {l : Launch} {M : jM} {d c n pc : Nat} {lv : List (Nat × Value)} {st : List Value} {sh : List jH} {V : Nat → Nat → Int32} {R : Nat → Nat → Option Nat} {post : Option Value → List jC → Prop} {xp : String → List jC → Prop} {t : Nat} (hM : M.1.cls = RX6) (hT : jReg shX6 sh t) (hd : decode M.2.1 pc = .ok (.getfield 54, 3)) (kk : J G l M d c n (pc + 3) lv (.int (V t 0) :: st) (mk sh V R) post xp) : J G l M d c n pc lv (.ref t :: st) (mk sh V R) post xp := JV.getf (C := RX6) (T0 := TX6) (N := 28) 0 hd hT.1 (hT.at 0 rfl) rfl in_X6 (by decide) (by rw [hM]; exact q2128) rfl rfl kk
theorem pX6_54 {G : jG} {l : Launch} {M : jM} {d c n pc : Nat} {lv : List (Nat × Value)} {st : List Value} {sh : List jH} {V : Nat → Nat → Int32} {R : Nat → Nat → Option Nat} {post : Option Value → List jC → Prop} {xp : String → List jC → Prop} {t : Nat} (hM : M.1.cls = RX6) (hT : jReg shX6 sh t) {x : Int32} (hd : decode M.2.1 pc = .ok (.putfield 54, 3)) (kk : J G l M d c n (pc + 3) lv st (mk sh (vset V t 0 x) R) post xp) : J G l M d c n pc lv (.int x :: .ref t :: st) (mk sh V R) post xp := JV.puti (C := RX6) (T0 := TX6) (N := 28) (o := 0) 0 hd hT.1 (hT.at 0 rfl) rfl in_X6 tyX6 tyX6_ok nmX6 (by decide) (by rw [hM]; exact q2128) rfl rfl (ji_put x) rfl kk
theorem kX6_310 {G : jG} {l : Launch} {M : jM} {d c n pc : Nat} {lv : List (Nat × Value)} {rest : List Value} {post : Option Value → List jC → Prop} {xp : String → List jC → Prop} (hM : M.1.cls = RX6) (htr : l.stackTraces = false) {sh : List jH} {V : Nat → Nat → Int32} {R : Nat → Nat → Option Nat} {t : Nat} (hT : jReg shX6 sh t) {a1 : Int32} {Q : Int32 → Prop} (hd : decode M.2.1 pc = .ok (.invokevirtual 310, 3)) (hdd : 1 + 1 ≤ d) (hw8 : (rest.map fun v => v.category).sum ≤ 8) (hw : wX6_isHost t V a1 Q) (kk : ∀ r, Q r → J G l M d c n (pc + 3) lv (.int r :: rest) (mk sh V R) post xp) : J G l M d c n pc lv (.int a1 :: .ref t :: rest) (mk sh V R) post xp :=
  J.callV (As := [.int a1]) (hcw := by rw [hM]; exact lw_V q2387 q2389 qs96 q152 q2390) (mX6_isHost htr hT hw) hd rfl ⟨5, _, _, mk_at (hT.at 0 rfl), rfl, rfl, fun _ => rfl⟩ ⟨rfl, by decide, by decide, by show _ = some 1; decide +kernel⟩ hw8 ⟨hdd, by decide⟩ jcc0 (fun r9 g9 h9 => by obtain ⟨rfl, r, rfl, h⟩ := h9; exact kk r h) jNo.x
theorem kX6_331 {G : jG} {l : Launch} {M : jM} {d c n pc : Nat} {lv : List (Nat × Value)} {rest : List Value} {post : Option Value → List jC → Prop} {xp : String → List jC → Prop} (hM : M.1.cls = RX6) (htr : l.stackTraces = false) {sh : List jH} {V : Nat → Nat → Int32} {R : Nat → Nat → Option Nat} {a1 : Int32} {Q : Int32 → Prop} (hd : decode M.2.1 pc = .ok (.invokestatic 331, 3)) (hdd : 1 + 1 ≤ d) (hw8 : (rest.map fun v => v.category).sum ≤ 8) (hw : wX6_isQuarter a1 Q) (kk : ∀ r, Q r → J G l M d c n (pc + 3) lv (.int r :: rest) (mk sh V R) post xp) : J G l M d c n pc lv (.int a1 :: rest) (mk sh V R) post xp :=
  J.callS (As := [.int a1]) (hcw := by rw [hM]; exact lw_S q2451 q2452 q152 q2453) (mX6_isQuarter htr hw) hd rfl ⟨by decide, by decide, by show _ = some 1; decide +kernel⟩ hw8 ⟨hdd, by decide⟩ jcc0 (fun r9 g9 h9 => by obtain ⟨rfl, r, rfl, h⟩ := h9; exact kk r h) jNo.x
theorem kX6_389 {G : jG} {l : Launch} {M : jM} {d c n pc : Nat} {lv : List (Nat × Value)} {rest : List Value} {post : Option Value → List jC → Prop} {xp : String → List jC → Prop} (hM : M.1.cls = RX6) (htr : l.stackTraces = false) {sh : List jH} {V : Nat → Nat → Int32} {R : Nat → Nat → Option Nat} {t : Nat} (hT : jReg shX6 sh t) {a1 : Int32} {a2 : Int32} {a3 : Int32} {a4 : Int32} {Q : (Nat → Nat → Int32) → Prop} (hd : decode M.2.1 pc = .ok (.invokevirtual 389, 3)) (hdd : 4 + 1 ≤ d) (hw8 : (rest.map fun v => v.category).sum ≤ 8) (hw : wX6_fills t V a1 a2 a3 a4 Q) (kk : ∀ V', Q V' → J G l M d c n (pc + 3) lv rest (mk sh V' R) post xp) : J G l M d c n pc lv (.int a4 :: .int a3 :: .int a2 :: .int a1 :: .ref t :: rest) (mk sh V R) post xp :=
  J.callV (As := [.int a1, .int a2, .int a3, .int a4]) (hcw := by rw [hM]; exact lw_V q2632 q2634 qs132 q152 q2635) (mX6_fills htr hT hw) hd rfl ⟨5, _, _, mk_at (hT.at 0 rfl), rfl, rfl, fun _ => rfl⟩ ⟨rfl, by decide, by decide, by show _ = some 4; decide +kernel⟩ hw8 ⟨hdd, by decide⟩ jcc0 (fun r9 g9 h9 => by obtain ⟨V9, rfl, rfl, h⟩ := h9; exact kk V9 h) jNo.x
theorem kX6_393 {G : jG} {l : Launch} {M : jM} {d c n pc : Nat} {lv : List (Nat × Value)} {rest : List Value} {post : Option Value → List jC → Prop} {xp : String → List jC → Prop} (hM : M.1.cls = RX6) (htr : l.stackTraces = false) {sh : List jH} {V : Nat → Nat → Int32} {R : Nat → Nat → Option Nat} {t : Nat} (hT : jReg shX6 sh t) {a1 : Int32} {a2 : Int32} {a3 : Int32} {a4 : Int32} {Q : Int32 → Prop} (hd : decode M.2.1 pc = .ok (.invokevirtual 393, 3)) (hdd : 4 + 1 ≤ d) (hw8 : (rest.map fun v => v.category).sum ≤ 8) (hw : wX6_firstOf t V a1 a2 a3 a4 Q) (kk : ∀ r, Q r → J G l M d c n (pc + 3) lv (.int r :: rest) (mk sh V R) post xp) : J G l M d c n pc lv (.int a4 :: .int a3 :: .int a2 :: .int a1 :: .ref t :: rest) (mk sh V R) post xp :=
  J.callV (As := [.int a1, .int a2, .int a3, .int a4]) (hcw := by rw [hM]; exact lw_V q2640 q2642 qs134 q152 q2643) (mX6_firstOf htr hT hw) hd rfl ⟨5, _, _, mk_at (hT.at 0 rfl), rfl, rfl, fun _ => rfl⟩ ⟨rfl, by decide, by decide, by show _ = some 4; decide +kernel⟩ hw8 ⟨hdd, by decide⟩ jcc0 (fun r9 g9 h9 => by obtain ⟨rfl, r, rfl, h⟩ := h9; exact kk r h) jNo.x
-- VisitingHoursModel.afternoon(II)I
abbrev MX6_afternoon : jM := (yX6_afternoon, cX6_afternoon, 3, some .int, [])
def wX6_afternoon_26 (t : Nat) (a1 : Int32) (a2 : Int32) (Q : Int32 → (Nat → Nat → Int32) → Prop) (V : Nat → Nat → Int32) (s1 : Int32) : Prop :=
  ((((vset V t 0 s1) t 0) ≤ 0 → wX6_fills t (vset V t 0 s1) ((vset V t 0 s1) (t + 1) 3) ((vset V t 0 s1) (t + 1) 4) a1 (0 : Int32) (fun V53 => ((¬ a2 = (-1 : Int32) → wX6_firstOf t V53 a2 (V53 (t + 1) 4) a1 (0 : Int32) (fun r80 => Q r80 V53)) ∧ (a2 = (-1 : Int32) → Q (V53 (t + 11) 0) V53)))) ∧ (¬ ((vset V t 0 s1) t 0) ≤ 0 → Q (0 : Int32) (vset V t 0 s1)))
theorem rX6_afternoon_26 {G : jG} {l : Launch} {d c n : Nat} (htr : l.stackTraces = false) (hdd : 5 ≤ d) {sh : List jH} {t : Nat} (hT : jReg shX6 sh t) {R : Nat → Nat → Option Nat} {a1 : Int32} {a2 : Int32} {Q : Int32 → (Nat → Nat → Int32) → Prop} {V : Nat → Nat → Int32} {s1 : Int32} (hw : wX6_afternoon_26 t a1 a2 Q V s1) : J G l MX6_afternoon d c n 26 [(0, .ref t), (1, .int a1), (2, .int a2)] [.int s1, .ref t] (mk sh V R) (jWr sh R Q) jNo := by
  unfold wX6_afternoon_26 at hw
  refine pX6_54 rfl hT dX6_afternoon_26 ?_
  refine J.aload_n 0 dX6_afternoon_29 rfl ?_
  refine gX6_54 rfl hT dX6_afternoon_30 ?_
  refine J.if_le 38 dX6_afternoon_33 (by decide) ⟨fun c33 => ?_, fun c33 => ?_⟩
  · have hw := hw.1 c33
    refine J.aload_n 0 dX6_afternoon_38 rfl ?_
    refine J.aload_n 0 dX6_afternoon_39 rfl ?_
    refine gX6_7 rfl hT dX6_afternoon_40 ?_
    refine J.iconst (v := (3 : Int32)) dX6_afternoon_43 (by decide) ?_
    refine JV.ialdK 3 dX6_afternoon_44 (hT.ge 1) (hT.at 1 rfl) rfl (by decide) (by decide) ?_
    refine J.aload_n 0 dX6_afternoon_45 rfl ?_
    refine gX6_7 rfl hT dX6_afternoon_46 ?_
    refine J.iconst (v := (4 : Int32)) dX6_afternoon_49 (by decide) ?_
    refine JV.ialdK 4 dX6_afternoon_50 (hT.ge 1) (hT.at 1 rfl) rfl (by decide) (by decide) ?_
    refine J.iload_n 1 dX6_afternoon_51 rfl ?_
    refine J.iconst (v := (0 : Int32)) dX6_afternoon_52 (by decide) ?_
    refine kX6_389 rfl htr hT dX6_afternoon_53 (by omega) (Nat.le_of_ble_eq_true rfl) hw (fun V53 hw => ?_)
    refine J.iload_n 2 dX6_afternoon_56 rfl ?_
    refine J.iconst (v := (-1 : Int32)) dX6_afternoon_57 (by decide) ?_
    refine J.icmp_ne 70 dX6_afternoon_58 (by decide) ⟨fun c58 => ?_, fun c58 => ?_⟩
    · have hw := hw.1 c58
      refine J.aload_n 0 dX6_afternoon_70 rfl ?_
      refine J.iload_n 2 dX6_afternoon_71 rfl ?_
      refine J.aload_n 0 dX6_afternoon_72 rfl ?_
      refine gX6_7 rfl hT dX6_afternoon_73 ?_
      refine J.iconst (v := (4 : Int32)) dX6_afternoon_76 (by decide) ?_
      refine JV.ialdK 4 dX6_afternoon_77 (hT.ge 1) (hT.at 1 rfl) rfl (by decide) (by decide) ?_
      refine J.iload_n 1 dX6_afternoon_78 rfl ?_
      refine J.iconst (v := (0 : Int32)) dX6_afternoon_79 (by decide) ?_
      refine kX6_393 rfl htr hT dX6_afternoon_80 (by omega) (Nat.le_of_ble_eq_true rfl) hw (fun r80 hw => ?_)
      exact J.iret rfl dX6_afternoon_83 ⟨_, rfl, _, rfl, hw⟩
    · have hw := hw.2 c58
      refine J.aload_n 0 dX6_afternoon_61 rfl ?_
      refine gX6_44 rfl hT dX6_afternoon_62 ?_
      refine J.iconst (v := (0 : Int32)) dX6_afternoon_65 (by decide) ?_
      refine JV.ialdK 0 dX6_afternoon_66 (hT.ge 11) (hT.at 11 rfl) rfl (by decide) (by decide) ?_
      refine J.goto 83 dX6_afternoon_67 (by decide) ?_
      exact J.iret rfl dX6_afternoon_83 ⟨_, rfl, _, rfl, hw⟩
  · have hw := hw.2 c33
    refine J.iconst (v := (0 : Int32)) dX6_afternoon_36 (by decide) ?_
    exact J.iret rfl dX6_afternoon_37 ⟨_, rfl, _, rfl, hw⟩
def wX6_afternoon_21 (t : Nat) (a1 : Int32) (a2 : Int32) (Q : Int32 → (Nat → Nat → Int32) → Prop) (V : Nat → Nat → Int32) : Prop :=
  wX6_afternoon_26 t a1 a2 Q V (1 : Int32)
theorem rX6_afternoon_21 {G : jG} {l : Launch} {d c n : Nat} (htr : l.stackTraces = false) (hdd : 5 ≤ d) {sh : List jH} {t : Nat} (hT : jReg shX6 sh t) {R : Nat → Nat → Option Nat} {a1 : Int32} {a2 : Int32} {Q : Int32 → (Nat → Nat → Int32) → Prop} {V : Nat → Nat → Int32} (hw : wX6_afternoon_21 t a1 a2 Q V) : J G l MX6_afternoon d c n 21 [(0, .ref t), (1, .int a1), (2, .int a2)] [.ref t] (mk sh V R) (jWr sh R Q) jNo := by
  unfold wX6_afternoon_21 at hw
  refine J.iconst (v := (1 : Int32)) dX6_afternoon_21 (by decide) ?_
  refine J.goto 26 dX6_afternoon_22 (by decide) ?_
  exact (rX6_afternoon_26 htr hdd hT hw)
def wX6_afternoon_25 (t : Nat) (a1 : Int32) (a2 : Int32) (Q : Int32 → (Nat → Nat → Int32) → Prop) (V : Nat → Nat → Int32) : Prop :=
  wX6_afternoon_26 t a1 a2 Q V (0 : Int32)
theorem rX6_afternoon_25 {G : jG} {l : Launch} {d c n : Nat} (htr : l.stackTraces = false) (hdd : 5 ≤ d) {sh : List jH} {t : Nat} (hT : jReg shX6 sh t) {R : Nat → Nat → Option Nat} {a1 : Int32} {a2 : Int32} {Q : Int32 → (Nat → Nat → Int32) → Prop} {V : Nat → Nat → Int32} (hw : wX6_afternoon_25 t a1 a2 Q V) : J G l MX6_afternoon d c n 25 [(0, .ref t), (1, .int a1), (2, .int a2)] [.ref t] (mk sh V R) (jWr sh R Q) jNo := by
  unfold wX6_afternoon_25 at hw
  refine J.iconst (v := (0 : Int32)) dX6_afternoon_25 (by decide) ?_
  exact (rX6_afternoon_26 htr hdd hT hw)
def wX6_afternoon (t : Nat) (V : Nat → Nat → Int32) (a1 : Int32) (a2 : Int32) (Q : Int32 → (Nat → Nat → Int32) → Prop) : Prop :=
  wX6_isQuarter a1 (fun r2 => ((r2 = 0 → wX6_afternoon_21 t a1 a2 Q V) ∧ (¬ r2 = 0 → ((a2 = (-1 : Int32) → wX6_afternoon_25 t a1 a2 Q V) ∧ (¬ a2 = (-1 : Int32) → wX6_isHost t V a2 (fun r15 => ((¬ r15 = 0 → wX6_afternoon_25 t a1 a2 Q V) ∧ (r15 = 0 → wX6_afternoon_21 t a1 a2 Q V))))))))
theorem mX6_afternoon {G : jG} {l : Launch} (htr : l.stackTraces = false) {sh : List jH} {V : Nat → Nat → Int32} {R : Nat → Nat → Option Nat} {t : Nat} (hT : jReg shX6 sh t) {a1 : Int32} {a2 : Int32} {Q : Int32 → (Nat → Nat → Int32) → Prop} (hw : wX6_afternoon t V a1 a2 Q) : JM G l MX6_afternoon 5 0 0 [.ref t, .int a1, .int a2] (mk sh V R) (jWr sh R Q) jNo := by
  refine JM.intro (by decide) rfl htr (Nat.le_of_ble_eq_true rfl) ?_
  show J G l MX6_afternoon 5 0 0 0 [(0, .ref t), (1, .int a1), (2, .int a2)] [] (mk sh V R) _ _
  unfold wX6_afternoon at hw
  refine J.aload_n 0 dX6_afternoon_0 rfl ?_
  refine J.iload_n 1 dX6_afternoon_1 rfl ?_
  refine kX6_331 rfl htr dX6_afternoon_2 (by omega) (Nat.le_of_ble_eq_true rfl) hw (fun r2 hw => ?_)
  refine J.if_eq 21 dX6_afternoon_5 (by decide) ⟨fun c5 => ?_, fun c5 => ?_⟩
  · have hw := hw.1 c5
    exact (rX6_afternoon_21 htr (Nat.le_refl _) hT hw)
  · have hw := hw.2 c5
    refine J.iload_n 2 dX6_afternoon_8 rfl ?_
    refine J.iconst (v := (-1 : Int32)) dX6_afternoon_9 (by decide) ?_
    refine J.icmp_eq 25 dX6_afternoon_10 (by decide) ⟨fun c10 => ?_, fun c10 => ?_⟩
    · have hw := hw.1 c10
      exact (rX6_afternoon_25 htr (Nat.le_refl _) hT hw)
    · have hw := hw.2 c10
      refine J.aload_n 0 dX6_afternoon_13 rfl ?_
      refine J.iload_n 2 dX6_afternoon_14 rfl ?_
      refine kX6_310 rfl htr hT dX6_afternoon_15 (by omega) (Nat.le_of_ble_eq_true rfl) hw (fun r15 hw => ?_)
      refine J.if_ne 25 dX6_afternoon_18 (by decide) ⟨fun c18 => ?_, fun c18 => ?_⟩
      · have hw := hw.1 c18
        exact (rX6_afternoon_25 htr (Nat.le_refl _) hT hw)
      · have hw := hw.2 c18
        exact (rX6_afternoon_21 htr (Nat.le_refl _) hT hw)
-- VisitingHoursModel.areAlike(II)Z
abbrev MX6_areAlike : jM := (yX6_areAlike, cX6_areAlike, 5, some .boolean, [])
def wX6_areAlike_24 (t : Nat) (V : Nat → Nat → Int32) (a1 : Int32) (a2 : Int32) (Q : Int32 → Prop) : Nat → Int32 → Int32 → Prop
  | 0, _, _ => False
  | f + 1, x3, x4 =>
    (((V (t + 1) 4) ≤ x4 → (jz x3 ∧ Q x3)) ∧ (¬ (V (t + 1) 4) ≤ x4 → ((x3 = 0 → (jz x3 ∧ Q x3)) ∧ (¬ x3 = 0 → wX6_rankOf t V a1 x4 (fun r43 => wX6_rankOf t V a2 x4 (fun r50 => ((¬ r43 = r50 → (∀ y62 : Int32, y62 = x4 + (1 : Int32) → wX6_areAlike_24 t V a1 a2 Q f (0 : Int32) y62)) ∧ (r43 = r50 → (∀ y62 : Int32, y62 = x4 + (1 : Int32) → wX6_areAlike_24 t V a1 a2 Q f (1 : Int32) y62)))))))))
theorem rX6_areAlike_24 {G : jG} {l : Launch} {d c n : Nat} (htr : l.stackTraces = false) (hdd : 1 ≤ d) {sh : List jH} {t : Nat} (hT : jReg shX6 sh t) {R : Nat → Nat → Option Nat} {V : Nat → Nat → Int32} {a1 : Int32} {a2 : Int32} {Q : Int32 → Prop} : ∀ (f : Nat) (x3 : Int32) (x4 : Int32), wX6_areAlike_24 t V a1 a2 Q f x3 x4 → J G l MX6_areAlike d c n 24 [(0, .ref t), (1, .int a1), (2, .int a2), (3, .int x3), (4, .int x4)] [] (mk sh V R) (jRd (mk sh V R) Q) jNo := by
  intro f
  induction f with
  | zero =>
    intro x3 x4 hw
    rw [wX6_areAlike_24] at hw
    exact hw.elim
  | succ f ih =>
    intro x3 x4 hw
    rw [wX6_areAlike_24] at hw
    refine J.iload 4 dX6_areAlike_24 rfl ?_
    refine J.aload_n 0 dX6_areAlike_26 rfl ?_
    refine gX6_7 rfl hT dX6_areAlike_27 ?_
    refine J.iconst (v := (4 : Int32)) dX6_areAlike_30 (by decide) ?_
    refine JV.ialdK 4 dX6_areAlike_31 (hT.ge 1) (hT.at 1 rfl) rfl (by decide) (by decide) ?_
    refine J.icmp_ge 68 dX6_areAlike_32 (by decide) ⟨fun c32 => ?_, fun c32 => ?_⟩
    · have hw := hw.1 c32
      refine J.iload_n 3 dX6_areAlike_68 rfl ?_
      exact J.zret rfl (jz_nar hw.1) dX6_areAlike_69 ⟨rfl, _, rfl, hw.2⟩
    · have hw := hw.2 c32
      refine J.iload_n 3 dX6_areAlike_35 rfl ?_
      refine J.if_eq 68 dX6_areAlike_36 (by decide) ⟨fun c36 => ?_, fun c36 => ?_⟩
      · have hw := hw.1 c36
        refine J.iload_n 3 dX6_areAlike_68 rfl ?_
        exact J.zret rfl (jz_nar hw.1) dX6_areAlike_69 ⟨rfl, _, rfl, hw.2⟩
      · have hw := hw.2 c36
        refine J.aload_n 0 dX6_areAlike_39 rfl ?_
        refine J.iload_n 1 dX6_areAlike_40 rfl ?_
        refine J.iload 4 dX6_areAlike_41 rfl ?_
        refine kX6_61 rfl htr hT dX6_areAlike_43 (by omega) (Nat.le_of_ble_eq_true rfl) hw (fun r43 hw => ?_)
        refine J.aload_n 0 dX6_areAlike_46 rfl ?_
        refine J.iload_n 2 dX6_areAlike_47 rfl ?_
        refine J.iload 4 dX6_areAlike_48 rfl ?_
        refine kX6_61 rfl htr hT dX6_areAlike_50 (by omega) (Nat.le_of_ble_eq_true rfl) hw (fun r50 hw => ?_)
        refine J.icmp_ne 60 dX6_areAlike_53 (by decide) ⟨fun c53 => ?_, fun c53 => ?_⟩
        · have hw := hw.1 c53
          refine J.iconst (v := (0 : Int32)) dX6_areAlike_60 (by decide) ?_
          refine J.istore_n (lv' := [(3, .int (0 : Int32)), (0, .ref t), (1, .int a1), (2, .int a2), (4, .int x4)]) dX6_areAlike_61 (by decide) rfl ?_
          refine J.iincN 4 (K := (1 : Int32)) (lv' := fun y62 => [(4, .int y62), (3, .int (0 : Int32)), (0, .ref t), (1, .int a1), (2, .int a2)]) dX6_areAlike_62 rfl (by decide) (by decide) (fun _ => rfl) hw (fun y62 hw => ?_)
          refine J.goto 24 dX6_areAlike_65 (by decide) ?_
          exact J.pick [2, 3, 4, 1, 0] rfl (ih _ _ hw)
        · have hw := hw.2 c53
          refine J.iconst (v := (1 : Int32)) dX6_areAlike_56 (by decide) ?_
          refine J.goto 61 dX6_areAlike_57 (by decide) ?_
          refine J.istore_n (lv' := [(3, .int (1 : Int32)), (0, .ref t), (1, .int a1), (2, .int a2), (4, .int x4)]) dX6_areAlike_61 (by decide) rfl ?_
          refine J.iincN 4 (K := (1 : Int32)) (lv' := fun y62 => [(4, .int y62), (3, .int (1 : Int32)), (0, .ref t), (1, .int a1), (2, .int a2)]) dX6_areAlike_62 rfl (by decide) (by decide) (fun _ => rfl) hw (fun y62 hw => ?_)
          refine J.goto 24 dX6_areAlike_65 (by decide) ?_
          exact J.pick [2, 3, 4, 1, 0] rfl (ih _ _ hw)
def wX6_areAlike (t : Nat) (V : Nat → Nat → Int32) (a1 : Int32) (a2 : Int32) (Q : Int32 → Prop) : Prop :=
  wX6_of t V a1 (1 : Int32) (fun r3 => wX6_of t V a2 (1 : Int32) (fun r9 => ((¬ r3 = r9 → (∃ f9, wX6_areAlike_24 t V a1 a2 Q f9 (0 : Int32) (0 : Int32))) ∧ (r3 = r9 → (∃ f9, wX6_areAlike_24 t V a1 a2 Q f9 (1 : Int32) (0 : Int32))))))
theorem mX6_areAlike {G : jG} {l : Launch} (htr : l.stackTraces = false) {sh : List jH} {V : Nat → Nat → Int32} {R : Nat → Nat → Option Nat} {t : Nat} (hT : jReg shX6 sh t) {a1 : Int32} {a2 : Int32} {Q : Int32 → Prop} (hw : wX6_areAlike t V a1 a2 Q) : JM G l MX6_areAlike 1 0 0 [.ref t, .int a1, .int a2] (mk sh V R) (jRd (mk sh V R) Q) jNo := by
  refine JM.intro (by decide) rfl htr (Nat.le_of_ble_eq_true rfl) ?_
  show J G l MX6_areAlike 1 0 0 0 [(0, .ref t), (1, .int a1), (2, .int a2)] [] (mk sh V R) _ _
  unfold wX6_areAlike at hw
  refine J.aload_n 0 dX6_areAlike_0 rfl ?_
  refine J.iload_n 1 dX6_areAlike_1 rfl ?_
  refine J.iconst (v := (1 : Int32)) dX6_areAlike_2 (by decide) ?_
  refine kX6_68 rfl htr hT dX6_areAlike_3 (by omega) (Nat.le_of_ble_eq_true rfl) hw (fun r3 hw => ?_)
  refine J.aload_n 0 dX6_areAlike_6 rfl ?_
  refine J.iload_n 2 dX6_areAlike_7 rfl ?_
  refine J.iconst (v := (1 : Int32)) dX6_areAlike_8 (by decide) ?_
  refine kX6_68 rfl htr hT dX6_areAlike_9 (by omega) (Nat.le_of_ble_eq_true rfl) hw (fun r9 hw => ?_)
  refine J.icmp_ne 19 dX6_areAlike_12 (by decide) ⟨fun c12 => ?_, fun c12 => ?_⟩
  · have hw := hw.1 c12
    refine J.iconst (v := (0 : Int32)) dX6_areAlike_19 (by decide) ?_
    refine J.istore_n (lv' := [(3, .int (0 : Int32)), (0, .ref t), (1, .int a1), (2, .int a2)]) dX6_areAlike_20 (by decide) rfl ?_
    refine J.iconst (v := (0 : Int32)) dX6_areAlike_21 (by decide) ?_
    refine J.istore (lv' := [(4, .int (0 : Int32)), (3, .int (0 : Int32)), (0, .ref t), (1, .int a1), (2, .int a2)]) dX6_areAlike_22 (by decide) rfl ?_
    obtain ⟨f9, hw⟩ := hw
    exact J.pick [2, 3, 4, 1, 0] rfl (rX6_areAlike_24 htr (Nat.le_refl _) hT f9 _ _ hw)
  · have hw := hw.2 c12
    refine J.iconst (v := (1 : Int32)) dX6_areAlike_15 (by decide) ?_
    refine J.goto 20 dX6_areAlike_16 (by decide) ?_
    refine J.istore_n (lv' := [(3, .int (1 : Int32)), (0, .ref t), (1, .int a1), (2, .int a2)]) dX6_areAlike_20 (by decide) rfl ?_
    refine J.iconst (v := (0 : Int32)) dX6_areAlike_21 (by decide) ?_
    refine J.istore (lv' := [(4, .int (0 : Int32)), (3, .int (1 : Int32)), (0, .ref t), (1, .int a1), (2, .int a2)]) dX6_areAlike_22 (by decide) rfl ?_
    obtain ⟨f9, hw⟩ := hw
    exact J.pick [2, 3, 4, 1, 0] rfl (rX6_areAlike_24 htr (Nat.le_refl _) hT f9 _ _ hw)
theorem kX6_424 {G : jG} {l : Launch} {M : jM} {d c n pc : Nat} {lv : List (Nat × Value)} {rest : List Value} {post : Option Value → List jC → Prop} {xp : String → List jC → Prop} (hM : M.1.cls = RX6) (htr : l.stackTraces = false) {sh : List jH} {V : Nat → Nat → Int32} {R : Nat → Nat → Option Nat} {t : Nat} (hT : jReg shX6 sh t) {a1 : Int32} {a2 : Int32} {Q : Int32 → Prop} (hd : decode M.2.1 pc = .ok (.invokevirtual 424, 3)) (hdd : 1 + 1 ≤ d) (hw8 : (rest.map fun v => v.category).sum ≤ 8) (hw : wX6_areAlike t V a1 a2 Q) (kk : ∀ r, Q r → J G l M d c n (pc + 3) lv (.int r :: rest) (mk sh V R) post xp) : J G l M d c n pc lv (.int a2 :: .int a1 :: .ref t :: rest) (mk sh V R) post xp :=
  J.callV (As := [.int a1, .int a2]) (hcw := by rw [hM]; exact lw_V q2727 q2729 qs140 q152 q2730) (mX6_areAlike htr hT hw) hd rfl ⟨5, _, _, mk_at (hT.at 0 rfl), rfl, rfl, fun _ => rfl⟩ ⟨rfl, by decide, by decide, by show _ = some 2; decide +kernel⟩ hw8 ⟨hdd, by decide⟩ jcc0 (fun r9 g9 h9 => by obtain ⟨rfl, r, rfl, h⟩ := h9; exact kk r h) jNo.x
-- VisitingHoursModel.alike()I
abbrev MX6_alike : jM := (yX6_alike, cX6_alike, 4, some .int, [])
def wX6_alike_23 (t : Nat) (Q : Int32 → (Nat → Nat → Int32) → Prop) (K9 : (Nat → Nat → Int32) → Int32 → Int32 → Prop) : Nat → (Nat → Nat → Int32) → Int32 → Int32 → Int32 → Prop
  | 0, _, _, _, _ => False
  | f + 1, V, x1, x2, x3 =>
    (((V (t + 1) 3) ≤ x3 → (∀ y56 : Int32, y56 = x2 + (1 : Int32) → K9 V x1 y56)) ∧ (¬ (V (t + 1) 3) ≤ x3 → wX6_areAlike t V x2 x3 (fun r37 => ((r37 = 0 → (∀ y49 : Int32, y49 = (x1 + (0 : Int32)) → (∀ y50 : Int32, y50 = x3 + (1 : Int32) → wX6_alike_23 t Q K9 f V y49 x2 y50))) ∧ (¬ r37 = 0 → (∀ y49 : Int32, y49 = (x1 + (1 : Int32)) → (∀ y50 : Int32, y50 = x3 + (1 : Int32) → wX6_alike_23 t Q K9 f V y49 x2 y50)))))))
theorem rX6_alike_23 {G : jG} {l : Launch} {d c n : Nat} (htr : l.stackTraces = false) (hdd : 2 ≤ d) {sh : List jH} {t : Nat} (hT : jReg shX6 sh t) {R : Nat → Nat → Option Nat} {Q : Int32 → (Nat → Nat → Int32) → Prop} {K9 : (Nat → Nat → Int32) → Int32 → Int32 → Prop} (hK9 : ∀ (V : Nat → Nat → Int32) (x1 : Int32) (x2 : Int32), K9 V x1 x2 → J G l MX6_alike d c n 9 [(0, .ref t), (1, .int x1), (2, .int x2)] [] (mk sh V R) (jWr sh R Q) jNo) : ∀ (f : Nat) (V : Nat → Nat → Int32) (x1 : Int32) (x2 : Int32) (x3 : Int32), wX6_alike_23 t Q K9 f V x1 x2 x3 → J G l MX6_alike d c n 23 [(0, .ref t), (1, .int x1), (2, .int x2), (3, .int x3)] [] (mk sh V R) (jWr sh R Q) jNo := by
  intro f
  induction f with
  | zero =>
    intro V x1 x2 x3 hw
    rw [wX6_alike_23] at hw
    exact hw.elim
  | succ f ih =>
    intro V x1 x2 x3 hw
    rw [wX6_alike_23] at hw
    refine J.iload_n 3 dX6_alike_23 rfl ?_
    refine J.aload_n 0 dX6_alike_24 rfl ?_
    refine gX6_7 rfl hT dX6_alike_25 ?_
    refine J.iconst (v := (3 : Int32)) dX6_alike_28 (by decide) ?_
    refine JV.ialdK 3 dX6_alike_29 (hT.ge 1) (hT.at 1 rfl) rfl (by decide) (by decide) ?_
    refine J.icmp_ge 56 dX6_alike_30 (by decide) ⟨fun c30 => ?_, fun c30 => ?_⟩
    · have hw := hw.1 c30
      refine J.iincN 2 (K := (1 : Int32)) (lv' := fun y56 => [(2, .int y56), (0, .ref t), (1, .int x1), (3, .int x3)]) dX6_alike_56 rfl (by decide) (by decide) (fun _ => rfl) hw (fun y56 hw => ?_)
      refine J.goto 9 dX6_alike_59 (by decide) ?_
      exact J.pick [1, 2, 0] rfl (hK9 _ _ _ hw)
    · have hw := hw.2 c30
      refine J.iload_n 1 dX6_alike_33 rfl ?_
      refine J.aload_n 0 dX6_alike_34 rfl ?_
      refine J.iload_n 2 dX6_alike_35 rfl ?_
      refine J.iload_n 3 dX6_alike_36 rfl ?_
      refine kX6_424 rfl htr hT dX6_alike_37 (by omega) (Nat.le_of_ble_eq_true rfl) hw (fun r37 hw => ?_)
      refine J.if_eq 47 dX6_alike_40 (by decide) ⟨fun c40 => ?_, fun c40 => ?_⟩
      · have hw := hw.1 c40
        refine J.iconst (v := (0 : Int32)) dX6_alike_47 (by decide) ?_
        refine J.iadd dX6_alike_48 ?_
        refine J.nm hw (fun y49 hw => ?_)
        refine J.istore_n (lv' := [(1, .int y49), (0, .ref t), (2, .int x2), (3, .int x3)]) dX6_alike_49 (by decide) rfl ?_
        refine J.iincN 3 (K := (1 : Int32)) (lv' := fun y50 => [(3, .int y50), (1, .int y49), (0, .ref t), (2, .int x2)]) dX6_alike_50 rfl (by decide) (by decide) (fun _ => rfl) hw (fun y50 hw => ?_)
        refine J.goto 23 dX6_alike_53 (by decide) ?_
        exact J.pick [2, 1, 3, 0] rfl (ih _ _ _ _ hw)
      · have hw := hw.2 c40
        refine J.iconst (v := (1 : Int32)) dX6_alike_43 (by decide) ?_
        refine J.goto 48 dX6_alike_44 (by decide) ?_
        refine J.iadd dX6_alike_48 ?_
        refine J.nm hw (fun y49 hw => ?_)
        refine J.istore_n (lv' := [(1, .int y49), (0, .ref t), (2, .int x2), (3, .int x3)]) dX6_alike_49 (by decide) rfl ?_
        refine J.iincN 3 (K := (1 : Int32)) (lv' := fun y50 => [(3, .int y50), (1, .int y49), (0, .ref t), (2, .int x2)]) dX6_alike_50 rfl (by decide) (by decide) (fun _ => rfl) hw (fun y50 hw => ?_)
        refine J.goto 23 dX6_alike_53 (by decide) ?_
        exact J.pick [2, 1, 3, 0] rfl (ih _ _ _ _ hw)
def wX6_alike_9 (t : Nat) (Q : Int32 → (Nat → Nat → Int32) → Prop) : Nat → (Nat → Nat → Int32) → Int32 → Int32 → Prop
  | 0, _, _, _ => False
  | f + 1, V, x1, x2 =>
    (((V (t + 1) 3) ≤ x2 → Q x1 V) ∧ (¬ (V (t + 1) 3) ≤ x2 → (∀ y22 : Int32, y22 = (x2 + (1 : Int32)) → (∃ f9, wX6_alike_23 t Q (fun V x1 x2 => wX6_alike_9 t Q f V x1 x2) f9 V x1 x2 y22))))
theorem rX6_alike_9 {G : jG} {l : Launch} {d c n : Nat} (htr : l.stackTraces = false) (hdd : 2 ≤ d) {sh : List jH} {t : Nat} (hT : jReg shX6 sh t) {R : Nat → Nat → Option Nat} {Q : Int32 → (Nat → Nat → Int32) → Prop} : ∀ (f : Nat) (V : Nat → Nat → Int32) (x1 : Int32) (x2 : Int32), wX6_alike_9 t Q f V x1 x2 → J G l MX6_alike d c n 9 [(0, .ref t), (1, .int x1), (2, .int x2)] [] (mk sh V R) (jWr sh R Q) jNo := by
  intro f
  induction f with
  | zero =>
    intro V x1 x2 hw
    rw [wX6_alike_9] at hw
    exact hw.elim
  | succ f ih =>
    intro V x1 x2 hw
    rw [wX6_alike_9] at hw
    refine J.iload_n 2 dX6_alike_9 rfl ?_
    refine J.aload_n 0 dX6_alike_10 rfl ?_
    refine gX6_7 rfl hT dX6_alike_11 ?_
    refine J.iconst (v := (3 : Int32)) dX6_alike_14 (by decide) ?_
    refine JV.ialdK 3 dX6_alike_15 (hT.ge 1) (hT.at 1 rfl) rfl (by decide) (by decide) ?_
    refine J.icmp_ge 62 dX6_alike_16 (by decide) ⟨fun c16 => ?_, fun c16 => ?_⟩
    · have hw := hw.1 c16
      refine J.iload_n 1 dX6_alike_62 rfl ?_
      exact J.iret rfl dX6_alike_63 ⟨_, rfl, _, rfl, hw⟩
    · have hw := hw.2 c16
      refine J.iload_n 2 dX6_alike_19 rfl ?_
      refine J.iconst (v := (1 : Int32)) dX6_alike_20 (by decide) ?_
      refine J.iadd dX6_alike_21 ?_
      refine J.nm hw (fun y22 hw => ?_)
      refine J.istore_n (lv' := [(3, .int y22), (0, .ref t), (1, .int x1), (2, .int x2)]) dX6_alike_22 (by decide) rfl ?_
      obtain ⟨f9, hw⟩ := hw
      exact J.pick [1, 2, 3, 0] rfl (rX6_alike_23 htr hdd hT ih f9 _ _ _ _ hw)
def wX6_alike (t : Nat) (V : Nat → Nat → Int32) (Q : Int32 → (Nat → Nat → Int32) → Prop) : Prop :=
  (∃ f9, wX6_alike_9 t Q f9 (vset V t 0 (0 : Int32)) (0 : Int32) (0 : Int32))
theorem mX6_alike {G : jG} {l : Launch} (htr : l.stackTraces = false) {sh : List jH} {V : Nat → Nat → Int32} {R : Nat → Nat → Option Nat} {t : Nat} (hT : jReg shX6 sh t) {Q : Int32 → (Nat → Nat → Int32) → Prop} (hw : wX6_alike t V Q) : JM G l MX6_alike 2 0 0 [.ref t] (mk sh V R) (jWr sh R Q) jNo := by
  refine JM.intro (by decide) rfl htr (Nat.le_of_ble_eq_true rfl) ?_
  show J G l MX6_alike 2 0 0 0 [(0, .ref t)] [] (mk sh V R) _ _
  unfold wX6_alike at hw
  refine J.aload_n 0 dX6_alike_0 rfl ?_
  refine J.iconst (v := (0 : Int32)) dX6_alike_1 (by decide) ?_
  refine pX6_54 rfl hT dX6_alike_2 ?_
  refine J.iconst (v := (0 : Int32)) dX6_alike_5 (by decide) ?_
  refine J.istore_n (lv' := [(1, .int (0 : Int32)), (0, .ref t)]) dX6_alike_6 (by decide) rfl ?_
  refine J.iconst (v := (0 : Int32)) dX6_alike_7 (by decide) ?_
  refine J.istore_n (lv' := [(2, .int (0 : Int32)), (1, .int (0 : Int32)), (0, .ref t)]) dX6_alike_8 (by decide) rfl ?_
  obtain ⟨f9, hw⟩ := hw
  exact J.pick [2, 1, 0] rfl (rX6_alike_9 htr (Nat.le_refl _) hT f9 _ _ _ hw)
-- VisitingHoursModel.isGuest(I)Z
abbrev MX6_isGuest : jM := (yX6_isGuest, cX6_isGuest, 2, some .boolean, [])
def wX6_isGuest (t : Nat) (V : Nat → Nat → Int32) (a1 : Int32) (Q : Int32 → Prop) : Prop :=
  wX6_isIn a1 (0 : Int32) ((V (t + 1) 4) - (1 : Int32)) (fun r10 => (jz r10 ∧ Q r10))
theorem mX6_isGuest {G : jG} {l : Launch} (htr : l.stackTraces = false) {sh : List jH} {V : Nat → Nat → Int32} {R : Nat → Nat → Option Nat} {t : Nat} (hT : jReg shX6 sh t) {a1 : Int32} {Q : Int32 → Prop} (hw : wX6_isGuest t V a1 Q) : JM G l MX6_isGuest 1 0 0 [.ref t, .int a1] (mk sh V R) (jRd (mk sh V R) Q) jNo := by
  refine JM.intro (by decide) rfl htr (Nat.le_of_ble_eq_true rfl) ?_
  show J G l MX6_isGuest 1 0 0 0 [(0, .ref t), (1, .int a1)] [] (mk sh V R) _ _
  unfold wX6_isGuest at hw
  refine J.iload_n 1 dX6_isGuest_0 rfl ?_
  refine J.iconst (v := (0 : Int32)) dX6_isGuest_1 (by decide) ?_
  refine J.aload_n 0 dX6_isGuest_2 rfl ?_
  refine gX6_7 rfl hT dX6_isGuest_3 ?_
  refine J.iconst (v := (4 : Int32)) dX6_isGuest_6 (by decide) ?_
  refine JV.ialdK 4 dX6_isGuest_7 (hT.ge 1) (hT.at 1 rfl) rfl (by decide) (by decide) ?_
  refine J.iconst (v := (1 : Int32)) dX6_isGuest_8 (by decide) ?_
  refine J.isub dX6_isGuest_9 ?_
  refine kX6_57 rfl htr dX6_isGuest_10 (by omega) (Nat.le_of_ble_eq_true rfl) hw (fun r10 hw => ?_)
  exact J.zret rfl (jz_nar hw.1) dX6_isGuest_13 ⟨rfl, _, rfl, hw.2⟩
theorem kX6_322 {G : jG} {l : Launch} {M : jM} {d c n pc : Nat} {lv : List (Nat × Value)} {rest : List Value} {post : Option Value → List jC → Prop} {xp : String → List jC → Prop} (hM : M.1.cls = RX6) (htr : l.stackTraces = false) {sh : List jH} {V : Nat → Nat → Int32} {R : Nat → Nat → Option Nat} {t : Nat} (hT : jReg shX6 sh t) {a1 : Int32} {Q : Int32 → Prop} (hd : decode M.2.1 pc = .ok (.invokevirtual 322, 3)) (hdd : 1 + 1 ≤ d) (hw8 : (rest.map fun v => v.category).sum ≤ 8) (hw : wX6_isGuest t V a1 Q) (kk : ∀ r, Q r → J G l M d c n (pc + 3) lv (.int r :: rest) (mk sh V R) post xp) : J G l M d c n pc lv (.int a1 :: .ref t :: rest) (mk sh V R) post xp :=
  J.callV (As := [.int a1]) (hcw := by rw [hM]; exact lw_V q2415 q2417 qs102 q152 q2418) (mX6_isGuest htr hT hw) hd rfl ⟨5, _, _, mk_at (hT.at 0 rfl), rfl, rfl, fun _ => rfl⟩ ⟨rfl, by decide, by decide, by show _ = some 1; decide +kernel⟩ hw8 ⟨hdd, by decide⟩ jcc0 (fun r9 g9 h9 => by obtain ⟨rfl, r, rfl, h⟩ := h9; exact kk r h) jNo.x
-- VisitingHoursModel.areThere(III)Z
abbrev MX6_areThere : jM := (yX6_areThere, cX6_areThere, 4, some .boolean, [])
def wX6_areThere_29 (t : Nat) (a1 : Int32) (a2 : Int32) (a3 : Int32) (Q : Int32 → (Nat → Nat → Int32) → Prop) (V : Nat → Nat → Int32) (s1 : Int32) : Prop :=
  ((¬ ((vset V t 0 s1) t 0) = 0 → Q (0 : Int32) (vset V t 0 s1)) ∧ (((vset V t 0 s1) t 0) = 0 → Q (1 : Int32) (vset V t 0 s1)))
theorem rX6_areThere_29 {G : jG} {l : Launch} {d c n : Nat} (htr : l.stackTraces = false) (hdd : 2 ≤ d) {sh : List jH} {t : Nat} (hT : jReg shX6 sh t) {R : Nat → Nat → Option Nat} {a1 : Int32} {a2 : Int32} {a3 : Int32} {Q : Int32 → (Nat → Nat → Int32) → Prop} {V : Nat → Nat → Int32} {s1 : Int32} (hw : wX6_areThere_29 t a1 a2 a3 Q V s1) : J G l MX6_areThere d c n 29 [(0, .ref t)] [.int s1, .ref t] (mk sh V R) (jWr sh R Q) jNo := by
  unfold wX6_areThere_29 at hw
  refine pX6_54 rfl hT dX6_areThere_29 ?_
  refine J.aload_n 0 dX6_areThere_32 rfl ?_
  refine gX6_54 rfl hT dX6_areThere_33 ?_
  refine J.if_ne 43 dX6_areThere_36 (by decide) ⟨fun c36 => ?_, fun c36 => ?_⟩
  · have hw := hw.1 c36
    refine J.iconst (v := (0 : Int32)) dX6_areThere_43 (by decide) ?_
    exact J.zret rfl rfl dX6_areThere_44 ⟨_, rfl, _, rfl, hw⟩
  · have hw := hw.2 c36
    refine J.iconst (v := (1 : Int32)) dX6_areThere_39 (by decide) ?_
    refine J.goto 44 dX6_areThere_40 (by decide) ?_
    exact J.zret rfl rfl dX6_areThere_44 ⟨_, rfl, _, rfl, hw⟩
def wX6_areThere_24 (t : Nat) (a1 : Int32) (a2 : Int32) (a3 : Int32) (Q : Int32 → (Nat → Nat → Int32) → Prop) (V : Nat → Nat → Int32) : Prop :=
  wX6_areThere_29 t a1 a2 a3 Q V (1 : Int32)
theorem rX6_areThere_24 {G : jG} {l : Launch} {d c n : Nat} (htr : l.stackTraces = false) (hdd : 2 ≤ d) {sh : List jH} {t : Nat} (hT : jReg shX6 sh t) {R : Nat → Nat → Option Nat} {a1 : Int32} {a2 : Int32} {a3 : Int32} {Q : Int32 → (Nat → Nat → Int32) → Prop} {V : Nat → Nat → Int32} (hw : wX6_areThere_24 t a1 a2 a3 Q V) : J G l MX6_areThere d c n 24 [(0, .ref t)] [.ref t] (mk sh V R) (jWr sh R Q) jNo := by
  unfold wX6_areThere_24 at hw
  refine J.iconst (v := (1 : Int32)) dX6_areThere_24 (by decide) ?_
  refine J.goto 29 dX6_areThere_25 (by decide) ?_
  exact (rX6_areThere_29 htr hdd hT hw)
def wX6_areThere (t : Nat) (V : Nat → Nat → Int32) (a1 : Int32) (a2 : Int32) (a3 : Int32) (Q : Int32 → (Nat → Nat → Int32) → Prop) : Prop :=
  wX6_isHost t V a1 (fun r3 => ((r3 = 0 → wX6_areThere_24 t a1 a2 a3 Q V) ∧ (¬ r3 = 0 → wX6_isGuest t V a2 (fun r11 => ((r11 = 0 → wX6_areThere_24 t a1 a2 a3 Q V) ∧ (¬ r11 = 0 → wX6_isQuarter a3 (fun r18 => ((¬ r18 = 0 → wX6_areThere_29 t a1 a2 a3 Q V (0 : Int32)) ∧ (r18 = 0 → wX6_areThere_24 t a1 a2 a3 Q V)))))))))
theorem mX6_areThere {G : jG} {l : Launch} (htr : l.stackTraces = false) {sh : List jH} {V : Nat → Nat → Int32} {R : Nat → Nat → Option Nat} {t : Nat} (hT : jReg shX6 sh t) {a1 : Int32} {a2 : Int32} {a3 : Int32} {Q : Int32 → (Nat → Nat → Int32) → Prop} (hw : wX6_areThere t V a1 a2 a3 Q) : JM G l MX6_areThere 2 0 0 [.ref t, .int a1, .int a2, .int a3] (mk sh V R) (jWr sh R Q) jNo := by
  refine JM.intro (by decide) rfl htr (Nat.le_of_ble_eq_true rfl) ?_
  show J G l MX6_areThere 2 0 0 0 [(0, .ref t), (1, .int a1), (2, .int a2), (3, .int a3)] [] (mk sh V R) _ _
  unfold wX6_areThere at hw
  refine J.aload_n 0 dX6_areThere_0 rfl ?_
  refine J.aload_n 0 dX6_areThere_1 rfl ?_
  refine J.iload_n 1 dX6_areThere_2 rfl ?_
  refine kX6_310 rfl htr hT dX6_areThere_3 (by omega) (Nat.le_of_ble_eq_true rfl) hw (fun r3 hw => ?_)
  refine J.if_eq 24 dX6_areThere_6 (by decide) ⟨fun c6 => ?_, fun c6 => ?_⟩
  · have hw := hw.1 c6
    exact J.pick [0] rfl (rX6_areThere_24 htr (Nat.le_refl _) hT hw)
  · have hw := hw.2 c6
    refine J.aload_n 0 dX6_areThere_9 rfl ?_
    refine J.iload_n 2 dX6_areThere_10 rfl ?_
    refine kX6_322 rfl htr hT dX6_areThere_11 (by omega) (Nat.le_of_ble_eq_true rfl) hw (fun r11 hw => ?_)
    refine J.if_eq 24 dX6_areThere_14 (by decide) ⟨fun c14 => ?_, fun c14 => ?_⟩
    · have hw := hw.1 c14
      exact J.pick [0] rfl (rX6_areThere_24 htr (Nat.le_refl _) hT hw)
    · have hw := hw.2 c14
      refine J.iload_n 3 dX6_areThere_17 rfl ?_
      refine kX6_331 rfl htr dX6_areThere_18 (by omega) (Nat.le_of_ble_eq_true rfl) hw (fun r18 hw => ?_)
      refine J.if_ne 28 dX6_areThere_21 (by decide) ⟨fun c21 => ?_, fun c21 => ?_⟩
      · have hw := hw.1 c21
        refine J.iconst (v := (0 : Int32)) dX6_areThere_28 (by decide) ?_
        exact J.pick [0] rfl (rX6_areThere_29 htr (Nat.le_refl _) hT hw)
      · have hw := hw.2 c21
        exact J.pick [0] rfl (rX6_areThere_24 htr (Nat.le_refl _) hT hw)
-- VisitingHoursModel.guestRather(III)Z
abbrev MX6_guestRather : jM := (yX6_guestRather, cX6_guestRather, 4, some .boolean, [])
def wX6_guestRather (t : Nat) (V : Nat → Nat → Int32) (a1 : Int32) (a2 : Int32) (a3 : Int32) (Q : Int32 → Prop) : Prop :=
  wX6_lovedOf t V a2 a1 (fun r3 => ((¬ r3 = 0 → ((¬ a3 = (-1 : Int32) → wX6_lovedOf t V a2 a1 (fun r21 => wX6_lovedOf t V a3 a1 (fun r27 => ((r27 < r21 → Q (1 : Int32)) ∧ (¬ r27 < r21 → wX6_lovedOf t V a2 a1 (fun r36 => wX6_lovedOf t V a3 a1 (fun r42 => ((¬ r36 = r42 → Q (0 : Int32)) ∧ (r36 = r42 → ((a3 ≤ a2 → Q (0 : Int32)) ∧ (¬ a3 ≤ a2 → Q (1 : Int32)))))))))))) ∧ (a3 = (-1 : Int32) → Q (1 : Int32)))) ∧ (r3 = 0 → Q (0 : Int32))))
theorem mX6_guestRather {G : jG} {l : Launch} (htr : l.stackTraces = false) {sh : List jH} {V : Nat → Nat → Int32} {R : Nat → Nat → Option Nat} {t : Nat} (hT : jReg shX6 sh t) {a1 : Int32} {a2 : Int32} {a3 : Int32} {Q : Int32 → Prop} (hw : wX6_guestRather t V a1 a2 a3 Q) : JM G l MX6_guestRather 1 0 0 [.ref t, .int a1, .int a2, .int a3] (mk sh V R) (jRd (mk sh V R) Q) jNo := by
  refine JM.intro (by decide) rfl htr (Nat.le_of_ble_eq_true rfl) ?_
  show J G l MX6_guestRather 1 0 0 0 [(0, .ref t), (1, .int a1), (2, .int a2), (3, .int a3)] [] (mk sh V R) _ _
  unfold wX6_guestRather at hw
  refine J.aload_n 0 dX6_guestRather_0 rfl ?_
  refine J.iload_n 2 dX6_guestRather_1 rfl ?_
  refine J.iload_n 1 dX6_guestRather_2 rfl ?_
  refine kX6_65 rfl htr hT dX6_guestRather_3 (by omega) (Nat.le_of_ble_eq_true rfl) hw (fun r3 hw => ?_)
  refine J.if_ne 11 dX6_guestRather_6 (by decide) ⟨fun c6 => ?_, fun c6 => ?_⟩
  · have hw := hw.1 c6
    refine J.iload_n 3 dX6_guestRather_11 rfl ?_
    refine J.iconst (v := (-1 : Int32)) dX6_guestRather_12 (by decide) ?_
    refine J.icmp_ne 18 dX6_guestRather_13 (by decide) ⟨fun c13 => ?_, fun c13 => ?_⟩
    · have hw := hw.1 c13
      refine J.aload_n 0 dX6_guestRather_18 rfl ?_
      refine J.iload_n 2 dX6_guestRather_19 rfl ?_
      refine J.iload_n 1 dX6_guestRather_20 rfl ?_
      refine kX6_65 rfl htr hT dX6_guestRather_21 (by omega) (Nat.le_of_ble_eq_true rfl) hw (fun r21 hw => ?_)
      refine J.aload_n 0 dX6_guestRather_24 rfl ?_
      refine J.iload_n 3 dX6_guestRather_25 rfl ?_
      refine J.iload_n 1 dX6_guestRather_26 rfl ?_
      refine kX6_65 rfl htr hT dX6_guestRather_27 (by omega) (Nat.le_of_ble_eq_true rfl) hw (fun r27 hw => ?_)
      refine J.icmp_gt 53 dX6_guestRather_30 (by decide) ⟨fun c30 => ?_, fun c30 => ?_⟩
      · have hw := hw.1 c30
        refine J.iconst (v := (1 : Int32)) dX6_guestRather_53 (by decide) ?_
        refine J.goto 58 dX6_guestRather_54 (by decide) ?_
        exact J.zret rfl rfl dX6_guestRather_58 ⟨rfl, _, rfl, hw⟩
      · have hw := hw.2 c30
        refine J.aload_n 0 dX6_guestRather_33 rfl ?_
        refine J.iload_n 2 dX6_guestRather_34 rfl ?_
        refine J.iload_n 1 dX6_guestRather_35 rfl ?_
        refine kX6_65 rfl htr hT dX6_guestRather_36 (by omega) (Nat.le_of_ble_eq_true rfl) hw (fun r36 hw => ?_)
        refine J.aload_n 0 dX6_guestRather_39 rfl ?_
        refine J.iload_n 3 dX6_guestRather_40 rfl ?_
        refine J.iload_n 1 dX6_guestRather_41 rfl ?_
        refine kX6_65 rfl htr hT dX6_guestRather_42 (by omega) (Nat.le_of_ble_eq_true rfl) hw (fun r42 hw => ?_)
        refine J.icmp_ne 57 dX6_guestRather_45 (by decide) ⟨fun c45 => ?_, fun c45 => ?_⟩
        · have hw := hw.1 c45
          refine J.iconst (v := (0 : Int32)) dX6_guestRather_57 (by decide) ?_
          exact J.zret rfl rfl dX6_guestRather_58 ⟨rfl, _, rfl, hw⟩
        · have hw := hw.2 c45
          refine J.iload_n 2 dX6_guestRather_48 rfl ?_
          refine J.iload_n 3 dX6_guestRather_49 rfl ?_
          refine J.icmp_ge 57 dX6_guestRather_50 (by decide) ⟨fun c50 => ?_, fun c50 => ?_⟩
          · have hw := hw.1 c50
            refine J.iconst (v := (0 : Int32)) dX6_guestRather_57 (by decide) ?_
            exact J.zret rfl rfl dX6_guestRather_58 ⟨rfl, _, rfl, hw⟩
          · have hw := hw.2 c50
            refine J.iconst (v := (1 : Int32)) dX6_guestRather_53 (by decide) ?_
            refine J.goto 58 dX6_guestRather_54 (by decide) ?_
            exact J.zret rfl rfl dX6_guestRather_58 ⟨rfl, _, rfl, hw⟩
    · have hw := hw.2 c13
      refine J.iconst (v := (1 : Int32)) dX6_guestRather_16 (by decide) ?_
      exact J.zret rfl rfl dX6_guestRather_17 ⟨rfl, _, rfl, hw⟩
  · have hw := hw.2 c6
    refine J.iconst (v := (0 : Int32)) dX6_guestRather_9 (by decide) ?_
    exact J.zret rfl rfl dX6_guestRather_10 ⟨rfl, _, rfl, hw⟩
-- VisitingHoursModel.hostRather(III)Z
abbrev MX6_hostRather : jM := (yX6_hostRather, cX6_hostRather, 4, some .boolean, [])
def wX6_hostRather (t : Nat) (V : Nat → Nat → Int32) (a1 : Int32) (a2 : Int32) (a3 : Int32) (Q : Int32 → Prop) : Prop :=
  wX6_rankOf t V a1 a2 (fun r3 => ((¬ r3 = 0 → ((¬ a3 = (-1 : Int32) → wX6_rankOf t V a1 a2 (fun r21 => wX6_rankOf t V a1 a3 (fun r27 => ((r27 < r21 → Q (1 : Int32)) ∧ (¬ r27 < r21 → wX6_rankOf t V a1 a2 (fun r36 => wX6_rankOf t V a1 a3 (fun r42 => ((¬ r36 = r42 → Q (0 : Int32)) ∧ (r36 = r42 → ((a3 ≤ a2 → Q (0 : Int32)) ∧ (¬ a3 ≤ a2 → Q (1 : Int32)))))))))))) ∧ (a3 = (-1 : Int32) → Q (1 : Int32)))) ∧ (r3 = 0 → Q (0 : Int32))))
theorem mX6_hostRather {G : jG} {l : Launch} (htr : l.stackTraces = false) {sh : List jH} {V : Nat → Nat → Int32} {R : Nat → Nat → Option Nat} {t : Nat} (hT : jReg shX6 sh t) {a1 : Int32} {a2 : Int32} {a3 : Int32} {Q : Int32 → Prop} (hw : wX6_hostRather t V a1 a2 a3 Q) : JM G l MX6_hostRather 1 0 0 [.ref t, .int a1, .int a2, .int a3] (mk sh V R) (jRd (mk sh V R) Q) jNo := by
  refine JM.intro (by decide) rfl htr (Nat.le_of_ble_eq_true rfl) ?_
  show J G l MX6_hostRather 1 0 0 0 [(0, .ref t), (1, .int a1), (2, .int a2), (3, .int a3)] [] (mk sh V R) _ _
  unfold wX6_hostRather at hw
  refine J.aload_n 0 dX6_hostRather_0 rfl ?_
  refine J.iload_n 1 dX6_hostRather_1 rfl ?_
  refine J.iload_n 2 dX6_hostRather_2 rfl ?_
  refine kX6_61 rfl htr hT dX6_hostRather_3 (by omega) (Nat.le_of_ble_eq_true rfl) hw (fun r3 hw => ?_)
  refine J.if_ne 11 dX6_hostRather_6 (by decide) ⟨fun c6 => ?_, fun c6 => ?_⟩
  · have hw := hw.1 c6
    refine J.iload_n 3 dX6_hostRather_11 rfl ?_
    refine J.iconst (v := (-1 : Int32)) dX6_hostRather_12 (by decide) ?_
    refine J.icmp_ne 18 dX6_hostRather_13 (by decide) ⟨fun c13 => ?_, fun c13 => ?_⟩
    · have hw := hw.1 c13
      refine J.aload_n 0 dX6_hostRather_18 rfl ?_
      refine J.iload_n 1 dX6_hostRather_19 rfl ?_
      refine J.iload_n 2 dX6_hostRather_20 rfl ?_
      refine kX6_61 rfl htr hT dX6_hostRather_21 (by omega) (Nat.le_of_ble_eq_true rfl) hw (fun r21 hw => ?_)
      refine J.aload_n 0 dX6_hostRather_24 rfl ?_
      refine J.iload_n 1 dX6_hostRather_25 rfl ?_
      refine J.iload_n 3 dX6_hostRather_26 rfl ?_
      refine kX6_61 rfl htr hT dX6_hostRather_27 (by omega) (Nat.le_of_ble_eq_true rfl) hw (fun r27 hw => ?_)
      refine J.icmp_gt 53 dX6_hostRather_30 (by decide) ⟨fun c30 => ?_, fun c30 => ?_⟩
      · have hw := hw.1 c30
        refine J.iconst (v := (1 : Int32)) dX6_hostRather_53 (by decide) ?_
        refine J.goto 58 dX6_hostRather_54 (by decide) ?_
        exact J.zret rfl rfl dX6_hostRather_58 ⟨rfl, _, rfl, hw⟩
      · have hw := hw.2 c30
        refine J.aload_n 0 dX6_hostRather_33 rfl ?_
        refine J.iload_n 1 dX6_hostRather_34 rfl ?_
        refine J.iload_n 2 dX6_hostRather_35 rfl ?_
        refine kX6_61 rfl htr hT dX6_hostRather_36 (by omega) (Nat.le_of_ble_eq_true rfl) hw (fun r36 hw => ?_)
        refine J.aload_n 0 dX6_hostRather_39 rfl ?_
        refine J.iload_n 1 dX6_hostRather_40 rfl ?_
        refine J.iload_n 3 dX6_hostRather_41 rfl ?_
        refine kX6_61 rfl htr hT dX6_hostRather_42 (by omega) (Nat.le_of_ble_eq_true rfl) hw (fun r42 hw => ?_)
        refine J.icmp_ne 57 dX6_hostRather_45 (by decide) ⟨fun c45 => ?_, fun c45 => ?_⟩
        · have hw := hw.1 c45
          refine J.iconst (v := (0 : Int32)) dX6_hostRather_57 (by decide) ?_
          exact J.zret rfl rfl dX6_hostRather_58 ⟨rfl, _, rfl, hw⟩
        · have hw := hw.2 c45
          refine J.iload_n 2 dX6_hostRather_48 rfl ?_
          refine J.iload_n 3 dX6_hostRather_49 rfl ?_
          refine J.icmp_ge 57 dX6_hostRather_50 (by decide) ⟨fun c50 => ?_, fun c50 => ?_⟩
          · have hw := hw.1 c50
            refine J.iconst (v := (0 : Int32)) dX6_hostRather_57 (by decide) ?_
            exact J.zret rfl rfl dX6_hostRather_58 ⟨rfl, _, rfl, hw⟩
          · have hw := hw.2 c50
            refine J.iconst (v := (1 : Int32)) dX6_hostRather_53 (by decide) ?_
            refine J.goto 58 dX6_hostRather_54 (by decide) ?_
            exact J.zret rfl rfl dX6_hostRather_58 ⟨rfl, _, rfl, hw⟩
    · have hw := hw.2 c13
      refine J.iconst (v := (1 : Int32)) dX6_hostRather_16 (by decide) ?_
      exact J.zret rfl rfl dX6_hostRather_17 ⟨rfl, _, rfl, hw⟩
  · have hw := hw.2 c6
    refine J.iconst (v := (0 : Int32)) dX6_hostRather_9 (by decide) ?_
    exact J.zret rfl rfl dX6_hostRather_10 ⟨rfl, _, rfl, hw⟩
theorem gX6_32 {G : jG} {l : Launch} {M : jM} {d c n pc : Nat} {lv : List (Nat × Value)} {st : List Value} {sh : List jH} {V : Nat → Nat → Int32} {R : Nat → Nat → Option Nat} {post : Option Value → List jC → Prop} {xp : String → List jC → Prop} {t : Nat} (hM : M.1.cls = RX6) (hT : jReg shX6 sh t) (hd : decode M.2.1 pc = .ok (.getfield 32, 3)) (kk : J G l M d c n (pc + 3) lv (.ref (t + 7) :: st) (mk sh V R) post xp) : J G l M d c n pc lv (.ref t :: st) (mk sh V R) post xp := JV.getf (C := RX6) (T0 := TX6) (N := 28) 21 hd hT.1 (hT.at 0 rfl) rfl in_X6 (by decide) (by rw [hM]; exact q2149) rfl rfl kk
theorem gX6_35 {G : jG} {l : Launch} {M : jM} {d c n pc : Nat} {lv : List (Nat × Value)} {st : List Value} {sh : List jH} {V : Nat → Nat → Int32} {R : Nat → Nat → Option Nat} {post : Option Value → List jC → Prop} {xp : String → List jC → Prop} {t : Nat} (hM : M.1.cls = RX6) (hT : jReg shX6 sh t) (hd : decode M.2.1 pc = .ok (.getfield 35, 3)) (kk : J G l M d c n (pc + 3) lv (.ref (t + 8) :: st) (mk sh V R) post xp) : J G l M d c n pc lv (.ref t :: st) (mk sh V R) post xp := JV.getf (C := RX6) (T0 := TX6) (N := 28) 22 hd hT.1 (hT.at 0 rfl) rfl in_X6 (by decide) (by rw [hM]; exact q2150) rfl rfl kk
theorem gX6_38 {G : jG} {l : Launch} {M : jM} {d c n pc : Nat} {lv : List (Nat × Value)} {st : List Value} {sh : List jH} {V : Nat → Nat → Int32} {R : Nat → Nat → Option Nat} {post : Option Value → List jC → Prop} {xp : String → List jC → Prop} {t : Nat} (hM : M.1.cls = RX6) (hT : jReg shX6 sh t) (hd : decode M.2.1 pc = .ok (.getfield 38, 3)) (kk : J G l M d c n (pc + 3) lv (.ref (t + 9) :: st) (mk sh V R) post xp) : J G l M d c n pc lv (.ref t :: st) (mk sh V R) post xp := JV.getf (C := RX6) (T0 := TX6) (N := 28) 23 hd hT.1 (hT.at 0 rfl) rfl in_X6 (by decide) (by rw [hM]; exact q2151) rfl rfl kk
theorem kX6_359 {G : jG} {l : Launch} {M : jM} {d c n pc : Nat} {lv : List (Nat × Value)} {rest : List Value} {post : Option Value → List jC → Prop} {xp : String → List jC → Prop} (hM : M.1.cls = RX6) (htr : l.stackTraces = false) {sh : List jH} {V : Nat → Nat → Int32} {R : Nat → Nat → Option Nat} {t : Nat} (hT : jReg shX6 sh t) {a1 : Int32} {a2 : Int32} {a3 : Int32} {Q : Int32 → Prop} (hd : decode M.2.1 pc = .ok (.invokevirtual 359, 3)) (hdd : 1 + 1 ≤ d) (hw8 : (rest.map fun v => v.category).sum ≤ 8) (hw : wX6_hostRather t V a1 a2 a3 Q) (kk : ∀ r, Q r → J G l M d c n (pc + 3) lv (.int r :: rest) (mk sh V R) post xp) : J G l M d c n pc lv (.int a3 :: .int a2 :: .int a1 :: .ref t :: rest) (mk sh V R) post xp :=
  J.callV (As := [.int a1, .int a2, .int a3]) (hcw := by rw [hM]; exact lw_V q2581 q2583 qs125 q152 q2584) (mX6_hostRather htr hT hw) hd rfl ⟨5, _, _, mk_at (hT.at 0 rfl), rfl, rfl, fun _ => rfl⟩ ⟨rfl, by decide, by decide, by show _ = some 3; decide +kernel⟩ hw8 ⟨hdd, by decide⟩ jcc0 (fun r9 g9 h9 => by obtain ⟨rfl, r, rfl, h⟩ := h9; exact kk r h) jNo.x
theorem kX6_362 {G : jG} {l : Launch} {M : jM} {d c n pc : Nat} {lv : List (Nat × Value)} {rest : List Value} {post : Option Value → List jC → Prop} {xp : String → List jC → Prop} (hM : M.1.cls = RX6) (htr : l.stackTraces = false) {sh : List jH} {V : Nat → Nat → Int32} {R : Nat → Nat → Option Nat} {t : Nat} (hT : jReg shX6 sh t) {a1 : Int32} {a2 : Int32} {a3 : Int32} {Q : Int32 → Prop} (hd : decode M.2.1 pc = .ok (.invokevirtual 362, 3)) (hdd : 1 + 1 ≤ d) (hw8 : (rest.map fun v => v.category).sum ≤ 8) (hw : wX6_guestRather t V a1 a2 a3 Q) (kk : ∀ r, Q r → J G l M d c n (pc + 3) lv (.int r :: rest) (mk sh V R) post xp) : J G l M d c n pc lv (.int a3 :: .int a2 :: .int a1 :: .ref t :: rest) (mk sh V R) post xp :=
  J.callV (As := [.int a1, .int a2, .int a3]) (hcw := by rw [hM]; exact lw_V q2585 q2587 qs126 q152 q2588) (mX6_guestRather htr hT hw) hd rfl ⟨5, _, _, mk_at (hT.at 0 rfl), rfl, rfl, fun _ => rfl⟩ ⟨rfl, by decide, by decide, by show _ = some 3; decide +kernel⟩ hw8 ⟨hdd, by decide⟩ jcc0 (fun r9 g9 h9 => by obtain ⟨rfl, r, rfl, h⟩ := h9; exact kk r h) jNo.x
-- VisitingHoursModel.asked(IIZ)V
abbrev MX6_asked : jM := (yX6_asked, cX6_asked, 6, none, [])
def wX6_asked_106 (t : Nat) (a1 : Int32) (a2 : Int32) (a3 : Int32) (Q : (Nat → Nat → Int32) → Prop) (V : Nat → Nat → Int32) : Prop :=
  ((a3 = 0 → (vp_in a1 8 ∧ (vp_in a2 8 ∧ Q (vset (vset V (t + 8) a1.toNatClampNeg a2) (t + 7) a2.toNatClampNeg a1)))) ∧ (¬ a3 = 0 → (vp_in a1 8 ∧ (vp_in a2 8 ∧ Q (vset (vset V (t + 7) a1.toNatClampNeg a2) (t + 8) a2.toNatClampNeg a1)))))
theorem rX6_asked_106 {G : jG} {l : Launch} {d c n : Nat} (htr : l.stackTraces = false) (hdd : 2 ≤ d) {sh : List jH} {t : Nat} (hT : jReg shX6 sh t) {R : Nat → Nat → Option Nat} {a1 : Int32} {a2 : Int32} {a3 : Int32} {Q : (Nat → Nat → Int32) → Prop} {V : Nat → Nat → Int32} (hw : wX6_asked_106 t a1 a2 a3 Q V) : J G l MX6_asked d c n 106 [(0, .ref t), (1, .int a1), (2, .int a2), (3, .int a3)] [] (mk sh V R) (jWv sh R Q) jNo := by
  unfold wX6_asked_106 at hw
  refine J.iload_n 3 dX6_asked_106 rfl ?_
  refine J.if_eq 127 dX6_asked_107 (by decide) ⟨fun c107 => ?_, fun c107 => ?_⟩
  · have hw := hw.1 c107
    refine J.aload_n 0 dX6_asked_127 rfl ?_
    refine gX6_35 rfl hT dX6_asked_128 ?_
    refine J.iload_n 1 dX6_asked_131 rfl ?_
    refine J.iload_n 2 dX6_asked_132 rfl ?_
    obtain ⟨h133, hw⟩ := hw
    refine JV.iast dX6_asked_133 (hT.ge 8) (hT.at 8 rfl) h133 ?_
    refine J.aload_n 0 dX6_asked_134 rfl ?_
    refine gX6_32 rfl hT dX6_asked_135 ?_
    refine J.iload_n 2 dX6_asked_138 rfl ?_
    refine J.iload_n 1 dX6_asked_139 rfl ?_
    obtain ⟨h140, hw⟩ := hw
    refine JV.iast dX6_asked_140 (hT.ge 7) (hT.at 7 rfl) h140 ?_
    exact J.vret rfl dX6_asked_141 ⟨_, rfl, rfl, hw⟩
  · have hw := hw.2 c107
    refine J.aload_n 0 dX6_asked_110 rfl ?_
    refine gX6_32 rfl hT dX6_asked_111 ?_
    refine J.iload_n 1 dX6_asked_114 rfl ?_
    refine J.iload_n 2 dX6_asked_115 rfl ?_
    obtain ⟨h116, hw⟩ := hw
    refine JV.iast dX6_asked_116 (hT.ge 7) (hT.at 7 rfl) h116 ?_
    refine J.aload_n 0 dX6_asked_117 rfl ?_
    refine gX6_35 rfl hT dX6_asked_118 ?_
    refine J.iload_n 2 dX6_asked_121 rfl ?_
    refine J.iload_n 1 dX6_asked_122 rfl ?_
    obtain ⟨h123, hw⟩ := hw
    refine JV.iast dX6_asked_123 (hT.ge 8) (hT.at 8 rfl) h123 ?_
    refine J.goto 141 dX6_asked_124 (by decide) ?_
    exact J.vret rfl dX6_asked_141 ⟨_, rfl, rfl, hw⟩
def wX6_asked_44 (t : Nat) (a1 : Int32) (a2 : Int32) (a3 : Int32) (Q : (Nat → Nat → Int32) → Prop) (V : Nat → Nat → Int32) (x4 : Int32) (s0 : Int32) : Prop :=
  ((¬ s0 = 0 → ((x4 = (-1 : Int32) → wX6_asked_106 t a1 a2 a3 Q V) ∧ (¬ x4 = (-1 : Int32) → (vp_in x4 8 ∧ (∀ y82 : Int32, y82 = ((V (t + 9) x4.toNatClampNeg) ||| ((1 : Int32) <<< (a2 &&& 31))) → (vp_in x4 8 ∧ ((a3 = 0 → (vp_in x4 8 ∧ wX6_asked_106 t a1 a2 a3 Q (vset (vset V (t + 9) x4.toNatClampNeg y82) (t + 8) x4.toNatClampNeg (-1 : Int32)))) ∧ (¬ a3 = 0 → (vp_in x4 8 ∧ wX6_asked_106 t a1 a2 a3 Q (vset (vset V (t + 9) x4.toNatClampNeg y82) (t + 7) x4.toNatClampNeg (-1 : Int32))))))))))) ∧ (s0 = 0 → (vp_in a1 8 ∧ (∀ y62 : Int32, y62 = ((V (t + 9) a1.toNatClampNeg) ||| ((1 : Int32) <<< (a2 &&& 31))) → (vp_in a1 8 ∧ Q (vset V (t + 9) a1.toNatClampNeg y62))))))
theorem rX6_asked_44 {G : jG} {l : Launch} {d c n : Nat} (htr : l.stackTraces = false) (hdd : 2 ≤ d) {sh : List jH} {t : Nat} (hT : jReg shX6 sh t) {R : Nat → Nat → Option Nat} {a1 : Int32} {a2 : Int32} {a3 : Int32} {Q : (Nat → Nat → Int32) → Prop} {V : Nat → Nat → Int32} {x4 : Int32} {s0 : Int32} (hw : wX6_asked_44 t a1 a2 a3 Q V x4 s0) : J G l MX6_asked d c n 44 [(0, .ref t), (1, .int a1), (2, .int a2), (3, .int a3), (4, .int x4)] [.int s0] (mk sh V R) (jWv sh R Q) jNo := by
  unfold wX6_asked_44 at hw
  refine J.istore (lv' := [(5, .int s0), (0, .ref t), (1, .int a1), (2, .int a2), (3, .int a3), (4, .int x4)]) dX6_asked_44 (by decide) rfl ?_
  refine J.iload 0 dX6_asked_46 rfl ?_
  refine J.if_ne 64 dX6_asked_48 (by decide) ⟨fun c48 => ?_, fun c48 => ?_⟩
  · have hw := hw.1 c48
    refine J.iload 5 dX6_asked_64 rfl ?_
    refine J.iconst (v := (-1 : Int32)) dX6_asked_66 (by decide) ?_
    refine J.icmp_eq 106 dX6_asked_67 (by decide) ⟨fun c67 => ?_, fun c67 => ?_⟩
    · have hw := hw.1 c67
      exact J.pick [1, 2, 3, 4] rfl (rX6_asked_106 htr hdd hT hw)
    · have hw := hw.2 c67
      refine J.aload_n 1 dX6_asked_70 rfl ?_
      refine gX6_38 rfl hT dX6_asked_71 ?_
      refine J.iload 5 dX6_asked_74 rfl ?_
      refine J.dup2 dX6_asked_76 rfl rfl ?_
      obtain ⟨h77, hw⟩ := hw
      refine JV.iald dX6_asked_77 (hT.ge 9) (hT.at 9 rfl) h77 ?_
      refine J.iconst (v := (1 : Int32)) dX6_asked_78 (by decide) ?_
      refine J.iload_n 3 dX6_asked_79 rfl ?_
      refine J.ishl dX6_asked_80 ?_
      refine J.ior dX6_asked_81 ?_
      refine J.nm hw (fun y82 hw => ?_)
      obtain ⟨h82, hw⟩ := hw
      refine JV.iast dX6_asked_82 (hT.ge 9) (hT.at 9 rfl) h82 ?_
      refine J.iload_n 4 dX6_asked_83 rfl ?_
      refine J.if_eq 98 dX6_asked_84 (by decide) ⟨fun c84 => ?_, fun c84 => ?_⟩
      · have hw := hw.1 c84
        refine J.aload_n 1 dX6_asked_98 rfl ?_
        refine gX6_35 rfl hT dX6_asked_99 ?_
        refine J.iload 5 dX6_asked_102 rfl ?_
        refine J.iconst (v := (-1 : Int32)) dX6_asked_104 (by decide) ?_
        obtain ⟨h105, hw⟩ := hw
        refine JV.iast dX6_asked_105 (hT.ge 8) (hT.at 8 rfl) h105 ?_
        exact J.pick [1, 2, 3, 4] rfl (rX6_asked_106 htr hdd hT hw)
      · have hw := hw.2 c84
        refine J.aload_n 1 dX6_asked_87 rfl ?_
        refine gX6_32 rfl hT dX6_asked_88 ?_
        refine J.iload 5 dX6_asked_91 rfl ?_
        refine J.iconst (v := (-1 : Int32)) dX6_asked_93 (by decide) ?_
        obtain ⟨h94, hw⟩ := hw
        refine JV.iast dX6_asked_94 (hT.ge 7) (hT.at 7 rfl) h94 ?_
        refine J.goto 106 dX6_asked_95 (by decide) ?_
        exact J.pick [1, 2, 3, 4] rfl (rX6_asked_106 htr hdd hT hw)
  · have hw := hw.2 c48
    refine J.aload_n 1 dX6_asked_51 rfl ?_
    refine gX6_38 rfl hT dX6_asked_52 ?_
    refine J.iload_n 2 dX6_asked_55 rfl ?_
    refine J.dup2 dX6_asked_56 rfl rfl ?_
    obtain ⟨h57, hw⟩ := hw
    refine JV.iald dX6_asked_57 (hT.ge 9) (hT.at 9 rfl) h57 ?_
    refine J.iconst (v := (1 : Int32)) dX6_asked_58 (by decide) ?_
    refine J.iload_n 3 dX6_asked_59 rfl ?_
    refine J.ishl dX6_asked_60 ?_
    refine J.ior dX6_asked_61 ?_
    refine J.nm hw (fun y62 hw => ?_)
    obtain ⟨h62, hw⟩ := hw
    refine JV.iast dX6_asked_62 (hT.ge 9) (hT.at 9 rfl) h62 ?_
    exact J.vret rfl dX6_asked_63 ⟨_, rfl, rfl, hw⟩
def wX6_asked_19 (t : Nat) (a1 : Int32) (a2 : Int32) (a3 : Int32) (Q : (Nat → Nat → Int32) → Prop) (V : Nat → Nat → Int32) (s0 : Int32) : Prop :=
  ((a3 = 0 → wX6_hostRather t V a2 a1 s0 (fun r41 => wX6_asked_44 t a1 a2 a3 Q V s0 r41)) ∧ (¬ a3 = 0 → wX6_guestRather t V a2 a1 s0 (fun r30 => wX6_asked_44 t a1 a2 a3 Q V s0 r30)))
theorem rX6_asked_19 {G : jG} {l : Launch} {d c n : Nat} (htr : l.stackTraces = false) (hdd : 2 ≤ d) {sh : List jH} {t : Nat} (hT : jReg shX6 sh t) {R : Nat → Nat → Option Nat} {a1 : Int32} {a2 : Int32} {a3 : Int32} {Q : (Nat → Nat → Int32) → Prop} {V : Nat → Nat → Int32} {s0 : Int32} (hw : wX6_asked_19 t a1 a2 a3 Q V s0) : J G l MX6_asked d c n 19 [(0, .ref t), (1, .int a1), (2, .int a2), (3, .int a3)] [.int s0] (mk sh V R) (jWv sh R Q) jNo := by
  unfold wX6_asked_19 at hw
  refine J.istore (lv' := [(4, .int s0), (0, .ref t), (1, .int a1), (2, .int a2), (3, .int a3)]) dX6_asked_19 (by decide) rfl ?_
  refine J.iload_n 4 dX6_asked_21 rfl ?_
  refine J.if_eq 36 dX6_asked_22 (by decide) ⟨fun c22 => ?_, fun c22 => ?_⟩
  · have hw := hw.1 c22
    refine J.aload_n 1 dX6_asked_36 rfl ?_
    refine J.iload_n 3 dX6_asked_37 rfl ?_
    refine J.iload_n 2 dX6_asked_38 rfl ?_
    refine J.iload 0 dX6_asked_39 rfl ?_
    refine kX6_359 rfl htr hT dX6_asked_41 (by omega) (Nat.le_of_ble_eq_true rfl) hw (fun r41 hw => ?_)
    exact J.pick [1, 2, 3, 4, 0] rfl (rX6_asked_44 htr hdd hT hw)
  · have hw := hw.2 c22
    refine J.aload_n 1 dX6_asked_25 rfl ?_
    refine J.iload_n 3 dX6_asked_26 rfl ?_
    refine J.iload_n 2 dX6_asked_27 rfl ?_
    refine J.iload 0 dX6_asked_28 rfl ?_
    refine kX6_362 rfl htr hT dX6_asked_30 (by omega) (Nat.le_of_ble_eq_true rfl) hw (fun r30 hw => ?_)
    refine J.goto 44 dX6_asked_33 (by decide) ?_
    exact J.pick [1, 2, 3, 4, 0] rfl (rX6_asked_44 htr hdd hT hw)
def wX6_asked (t : Nat) (V : Nat → Nat → Int32) (a1 : Int32) (a2 : Int32) (a3 : Int32) (Q : (Nat → Nat → Int32) → Prop) : Prop :=
  ((a3 = 0 → (vp_in a2 8 ∧ wX6_asked_19 t a1 a2 a3 Q V (V (t + 7) a2.toNatClampNeg))) ∧ (¬ a3 = 0 → (vp_in a2 8 ∧ wX6_asked_19 t a1 a2 a3 Q V (V (t + 8) a2.toNatClampNeg))))
theorem mX6_asked {G : jG} {l : Launch} (htr : l.stackTraces = false) {sh : List jH} {V : Nat → Nat → Int32} {R : Nat → Nat → Option Nat} {t : Nat} (hT : jReg shX6 sh t) {a1 : Int32} {a2 : Int32} {a3 : Int32} {Q : (Nat → Nat → Int32) → Prop} (hw : wX6_asked t V a1 a2 a3 Q) : JM G l MX6_asked 2 0 0 [.ref t, .int a1, .int a2, .int a3] (mk sh V R) (jWv sh R Q) jNo := by
  refine JM.intro (by decide) rfl htr (Nat.le_of_ble_eq_true rfl) ?_
  show J G l MX6_asked 2 0 0 0 [(0, .ref t), (1, .int a1), (2, .int a2), (3, .int a3)] [] (mk sh V R) _ _
  unfold wX6_asked at hw
  refine J.iload_n 3 dX6_asked_0 rfl ?_
  refine J.if_eq 13 dX6_asked_1 (by decide) ⟨fun c1 => ?_, fun c1 => ?_⟩
  · have hw := hw.1 c1
    refine J.aload_n 0 dX6_asked_13 rfl ?_
    refine gX6_32 rfl hT dX6_asked_14 ?_
    refine J.iload_n 2 dX6_asked_17 rfl ?_
    obtain ⟨h18, hw⟩ := hw
    refine JV.iald dX6_asked_18 (hT.ge 7) (hT.at 7 rfl) h18 ?_
    exact (rX6_asked_19 htr (Nat.le_refl _) hT hw)
  · have hw := hw.2 c1
    refine J.aload_n 0 dX6_asked_4 rfl ?_
    refine gX6_35 rfl hT dX6_asked_5 ?_
    refine J.iload_n 2 dX6_asked_8 rfl ?_
    obtain ⟨h9, hw⟩ := hw
    refine JV.iald dX6_asked_9 (hT.ge 8) (hT.at 8 rfl) h9 ?_
    refine J.goto 19 dX6_asked_10 (by decide) ?_
    exact (rX6_asked_19 htr (Nat.le_refl _) hT hw)
theorem gX6_13 {G : jG} {l : Launch} {M : jM} {d c n pc : Nat} {lv : List (Nat × Value)} {st : List Value} {sh : List jH} {V : Nat → Nat → Int32} {R : Nat → Nat → Option Nat} {post : Option Value → List jC → Prop} {xp : String → List jC → Prop} {t : Nat} (hM : M.1.cls = RX6) (hT : jReg shX6 sh t) (hd : decode M.2.1 pc = .ok (.getfield 13, 3)) (kk : J G l M d c n (pc + 3) lv (.ref (t + 2) :: st) (mk sh V R) post xp) : J G l M d c n pc lv (.ref t :: st) (mk sh V R) post xp := JV.getf (C := RX6) (T0 := TX6) (N := 28) 2 hd hT.1 (hT.at 0 rfl) rfl in_X6 (by decide) (by rw [hM]; exact q2130) rfl rfl kk
theorem pX6_205 {G : jG} {l : Launch} {M : jM} {d c n pc : Nat} {lv : List (Nat × Value)} {st : List Value} {sh : List jH} {V : Nat → Nat → Int32} {R : Nat → Nat → Option Nat} {post : Option Value → List jC → Prop} {xp : String → List jC → Prop} {t : Nat} (hM : M.1.cls = RX6) (hT : jReg shX6 sh t) {x : Int32} (hd : decode M.2.1 pc = .ok (.putfield 205, 3)) (kk : J G l M d c n (pc + 3) lv st (mk sh (vset V t 6 x) R) post xp) : J G l M d c n pc lv (.int x :: .ref t :: st) (mk sh V R) post xp := JV.puti (C := RX6) (T0 := TX6) (N := 28) (o := 0) 6 hd hT.1 (hT.at 0 rfl) rfl in_X6 tyX6 tyX6_ok nmX6 (by decide) (by rw [hM]; exact q2134) rfl rfl (ji_put x) rfl kk
theorem gX6_430 {G : jG} {l : Launch} {M : jM} {d c n pc : Nat} {lv : List (Nat × Value)} {st : List Value} {sh : List jH} {V : Nat → Nat → Int32} {R : Nat → Nat → Option Nat} {post : Option Value → List jC → Prop} {xp : String → List jC → Prop} {t : Nat} (hM : M.1.cls = RX6) (hT : jReg shX6 sh t) (hd : decode M.2.1 pc = .ok (.getfield 430, 3)) (kk : J G l M d c n (pc + 3) lv (.int (V t 3) :: st) (mk sh V R) post xp) : J G l M d c n pc lv (.ref t :: st) (mk sh V R) post xp := JV.getf (C := RX6) (T0 := TX6) (N := 28) 3 hd hT.1 (hT.at 0 rfl) rfl in_X6 (by decide) (by rw [hM]; exact q2131) rfl rfl kk
-- VisitingHoursModel.back()Z
abbrev MX6_back : jM := (yX6_back, cX6_back, 2, some .boolean, [])
def wX6_back_16 (t : Nat) (Q : Int32 → (Nat → Nat → Int32) → Prop) : Nat → (Nat → Nat → Int32) → Int32 → Prop
  | 0, _, _ => False
  | f + 1, V, x1 =>
    (((1019 : Int32) ≤ x1 → Q (1 : Int32) (vset V t 6 (0 : Int32))) ∧ (¬ (1019 : Int32) ≤ x1 → (vp_in x1 1019 ∧ (∀ y34 : Int32, y34 = (V (t + 2) x1.toNatClampNeg) → (vp_in x1 1019 ∧ (∀ y35 : Int32, y35 = x1 + (1 : Int32) → wX6_back_16 t Q f (vset V (t + 1) x1.toNatClampNeg y34) y35))))))
theorem rX6_back_16 {G : jG} {l : Launch} {d c n : Nat} (htr : l.stackTraces = false) (hdd : 0 ≤ d) {sh : List jH} {t : Nat} (hT : jReg shX6 sh t) {R : Nat → Nat → Option Nat} {Q : Int32 → (Nat → Nat → Int32) → Prop} : ∀ (f : Nat) (V : Nat → Nat → Int32) (x1 : Int32), wX6_back_16 t Q f V x1 → J G l MX6_back d c n 16 [(0, .ref t), (1, .int x1)] [] (mk sh V R) (jWr sh R Q) jNo := by
  intro f
  induction f with
  | zero =>
    intro V x1 hw
    rw [wX6_back_16] at hw
    exact hw.elim
  | succ f ih =>
    intro V x1 hw
    rw [wX6_back_16] at hw
    refine J.iload_n 1 dX6_back_16 rfl ?_
    refine J.sipush (v := (1019 : Int32)) dX6_back_17 (by decide) ?_
    refine J.icmp_ge 41 dX6_back_20 (by decide) ⟨fun c20 => ?_, fun c20 => ?_⟩
    · have hw := hw.1 c20
      refine J.aload_n 0 dX6_back_41 rfl ?_
      refine J.iconst (v := (0 : Int32)) dX6_back_42 (by decide) ?_
      refine pX6_205 rfl hT dX6_back_43 ?_
      refine J.iconst (v := (1 : Int32)) dX6_back_46 (by decide) ?_
      exact J.zret rfl rfl dX6_back_47 ⟨_, rfl, _, rfl, hw⟩
    · have hw := hw.2 c20
      refine J.aload_n 0 dX6_back_23 rfl ?_
      refine gX6_7 rfl hT dX6_back_24 ?_
      refine J.iload_n 1 dX6_back_27 rfl ?_
      refine J.aload_n 0 dX6_back_28 rfl ?_
      refine gX6_13 rfl hT dX6_back_29 ?_
      refine J.iload_n 1 dX6_back_32 rfl ?_
      obtain ⟨h33, hw⟩ := hw
      refine JV.iald dX6_back_33 (hT.ge 2) (hT.at 2 rfl) h33 ?_
      refine J.nm hw (fun y34 hw => ?_)
      obtain ⟨h34, hw⟩ := hw
      refine JV.iast dX6_back_34 (hT.ge 1) (hT.at 1 rfl) h34 ?_
      refine J.iincN 1 (K := (1 : Int32)) (lv' := fun y35 => [(1, .int y35), (0, .ref t)]) dX6_back_35 rfl (by decide) (by decide) (fun _ => rfl) hw (fun y35 hw => ?_)
      refine J.goto 16 dX6_back_38 (by decide) ?_
      exact J.pick [1, 0] rfl (ih _ _ hw)
def wX6_back (t : Nat) (V : Nat → Nat → Int32) (Q : Int32 → (Nat → Nat → Int32) → Prop) : Prop :=
  ((¬ ((vset V t 0 (0 : Int32)) t 3) = 0 → (∃ f9, wX6_back_16 t Q f9 (vset V t 0 (0 : Int32)) (0 : Int32))) ∧ (((vset V t 0 (0 : Int32)) t 3) = 0 → Q (0 : Int32) (vset V t 0 (0 : Int32))))
theorem mX6_back {G : jG} {l : Launch} (htr : l.stackTraces = false) {sh : List jH} {V : Nat → Nat → Int32} {R : Nat → Nat → Option Nat} {t : Nat} (hT : jReg shX6 sh t) {Q : Int32 → (Nat → Nat → Int32) → Prop} (hw : wX6_back t V Q) : JM G l MX6_back 0 0 0 [.ref t] (mk sh V R) (jWr sh R Q) jNo := by
  refine JM.intro (by decide) rfl htr (Nat.le_of_ble_eq_true rfl) ?_
  show J G l MX6_back 0 0 0 0 [(0, .ref t)] [] (mk sh V R) _ _
  unfold wX6_back at hw
  refine J.aload_n 0 dX6_back_0 rfl ?_
  refine J.iconst (v := (0 : Int32)) dX6_back_1 (by decide) ?_
  refine pX6_54 rfl hT dX6_back_2 ?_
  refine J.aload_n 0 dX6_back_5 rfl ?_
  refine gX6_430 rfl hT dX6_back_6 ?_
  refine J.if_ne 14 dX6_back_9 (by decide) ⟨fun c9 => ?_, fun c9 => ?_⟩
  · have hw := hw.1 c9
    refine J.iconst (v := (0 : Int32)) dX6_back_14 (by decide) ?_
    refine J.istore_n (lv' := [(1, .int (0 : Int32)), (0, .ref t)]) dX6_back_15 (by decide) rfl ?_
    obtain ⟨f9, hw⟩ := hw
    exact J.pick [1, 0] rfl (rX6_back_16 htr (Nat.le_refl _) hT f9 _ _ hw)
  · have hw := hw.2 c9
    refine J.iconst (v := (0 : Int32)) dX6_back_12 (by decide) ?_
    exact J.zret rfl rfl dX6_back_13 ⟨_, rfl, _, rfl, hw⟩
theorem pX6_25 {G : jG} {l : Launch} {M : jM} {d c n pc : Nat} {lv : List (Nat × Value)} {st : List Value} {sh : List jH} {V : Nat → Nat → Int32} {R : Nat → Nat → Option Nat} {post : Option Value → List jC → Prop} {xp : String → List jC → Prop} {t : Nat} (hM : M.1.cls = RX6) (hT : jReg shX6 sh t) {x : Int32} (hd : decode M.2.1 pc = .ok (.putfield 25, 3)) (kk : J G l M d c n (pc + 3) lv st (mk sh (vset V t 12 x) R) post xp) : J G l M d c n pc lv (.int x :: .ref t :: st) (mk sh V R) post xp := JV.puti (C := RX6) (T0 := TX6) (N := 28) (o := 0) 12 hd hT.1 (hT.at 0 rfl) rfl in_X6 tyX6 tyX6_ok nmX6 (by decide) (by rw [hM]; exact q2140) rfl rfl (ji_put x) rfl kk
theorem gX6_81 {G : jG} {l : Launch} {M : jM} {d c n pc : Nat} {lv : List (Nat × Value)} {st : List Value} {sh : List jH} {V : Nat → Nat → Int32} {R : Nat → Nat → Option Nat} {post : Option Value → List jC → Prop} {xp : String → List jC → Prop} {t : Nat} (hM : M.1.cls = RX6) (hT : jReg shX6 sh t) (hd : decode M.2.1 pc = .ok (.getfield 81, 3)) (kk : J G l M d c n (pc + 3) lv (.int (V t 8) :: st) (mk sh V R) post xp) : J G l M d c n pc lv (.ref t :: st) (mk sh V R) post xp := JV.getf (C := RX6) (T0 := TX6) (N := 28) 8 hd hT.1 (hT.at 0 rfl) rfl in_X6 (by decide) (by rw [hM]; exact q2136) rfl rfl kk
theorem pX6_81 {G : jG} {l : Launch} {M : jM} {d c n pc : Nat} {lv : List (Nat × Value)} {st : List Value} {sh : List jH} {V : Nat → Nat → Int32} {R : Nat → Nat → Option Nat} {post : Option Value → List jC → Prop} {xp : String → List jC → Prop} {t : Nat} (hM : M.1.cls = RX6) (hT : jReg shX6 sh t) {x : Int32} (hd : decode M.2.1 pc = .ok (.putfield 81, 3)) (kk : J G l M d c n (pc + 3) lv st (mk sh (vset V t 8 x) R) post xp) : J G l M d c n pc lv (.int x :: .ref t :: st) (mk sh V R) post xp := JV.puti (C := RX6) (T0 := TX6) (N := 28) (o := 0) 8 hd hT.1 (hT.at 0 rfl) rfl in_X6 tyX6 tyX6_ok nmX6 (by decide) (by rw [hM]; exact q2136) rfl rfl (ji_put x) rfl kk
theorem pX6_84 {G : jG} {l : Launch} {M : jM} {d c n pc : Nat} {lv : List (Nat × Value)} {st : List Value} {sh : List jH} {V : Nat → Nat → Int32} {R : Nat → Nat → Option Nat} {post : Option Value → List jC → Prop} {xp : String → List jC → Prop} {t : Nat} (hM : M.1.cls = RX6) (hT : jReg shX6 sh t) {x : Int32} (hd : decode M.2.1 pc = .ok (.putfield 84, 3)) (kk : J G l M d c n (pc + 3) lv st (mk sh (vset V t 9 x) R) post xp) : J G l M d c n pc lv (.int x :: .ref t :: st) (mk sh V R) post xp := JV.puti (C := RX6) (T0 := TX6) (N := 28) (o := 0) 9 hd hT.1 (hT.at 0 rfl) rfl in_X6 tyX6 tyX6_ok nmX6 (by decide) (by rw [hM]; exact q2137) rfl rfl (ji_put x) rfl kk
theorem pX6_87 {G : jG} {l : Launch} {M : jM} {d c n pc : Nat} {lv : List (Nat × Value)} {st : List Value} {sh : List jH} {V : Nat → Nat → Int32} {R : Nat → Nat → Option Nat} {post : Option Value → List jC → Prop} {xp : String → List jC → Prop} {t : Nat} (hM : M.1.cls = RX6) (hT : jReg shX6 sh t) {x : Int32} (hd : decode M.2.1 pc = .ok (.putfield 87, 3)) (kk : J G l M d c n (pc + 3) lv st (mk sh (vset V t 11 x) R) post xp) : J G l M d c n pc lv (.int x :: .ref t :: st) (mk sh V R) post xp := JV.puti (C := RX6) (T0 := TX6) (N := 28) (o := 0) 11 hd hT.1 (hT.at 0 rfl) rfl in_X6 tyX6 tyX6_ok nmX6 (by decide) (by rw [hM]; exact q2139) rfl rfl (ji_put x) rfl kk
theorem pX6_90 {G : jG} {l : Launch} {M : jM} {d c n pc : Nat} {lv : List (Nat × Value)} {st : List Value} {sh : List jH} {V : Nat → Nat → Int32} {R : Nat → Nat → Option Nat} {post : Option Value → List jC → Prop} {xp : String → List jC → Prop} {t : Nat} (hM : M.1.cls = RX6) (hT : jReg shX6 sh t) {x : Int32} (hd : decode M.2.1 pc = .ok (.putfield 90, 3)) (kk : J G l M d c n (pc + 3) lv st (mk sh (vset V t 10 x) R) post xp) : J G l M d c n pc lv (.int x :: .ref t :: st) (mk sh V R) post xp := JV.puti (C := RX6) (T0 := TX6) (N := 28) (o := 0) 10 hd hT.1 (hT.at 0 rfl) rfl in_X6 tyX6 tyX6_ok nmX6 (by decide) (by rw [hM]; exact q2138) rfl rfl (ji_put x) rfl kk
theorem pX6_179 {G : jG} {l : Launch} {M : jM} {d c n pc : Nat} {lv : List (Nat × Value)} {st : List Value} {sh : List jH} {V : Nat → Nat → Int32} {R : Nat → Nat → Option Nat} {post : Option Value → List jC → Prop} {xp : String → List jC → Prop} {t : Nat} (hM : M.1.cls = RX6) (hT : jReg shX6 sh t) {x : Int32} (hd : decode M.2.1 pc = .ok (.putfield 179, 3)) (kk : J G l M d c n (pc + 3) lv st (mk sh (vset V t 13 x) R) post xp) : J G l M d c n pc lv (.int x :: .ref t :: st) (mk sh V R) post xp := JV.puti (C := RX6) (T0 := TX6) (N := 28) (o := 0) 13 hd hT.1 (hT.at 0 rfl) rfl in_X6 tyX6 tyX6_ok nmX6 (by decide) (by rw [hM]; exact q2141) rfl rfl (ji_put x) rfl kk
-- VisitingHoursModel.begins()V
abbrev MX6_begins : jM := (yX6_begins, cX6_begins, 1, none, [])
def wX6_begins (t : Nat) (V : Nat → Nat → Int32) (Q : (Nat → Nat → Int32) → Prop) : Prop :=
  (∀ y15 : Int32, y15 = ((vset (vset V t 12 (-1 : Int32)) t 9 (-1 : Int32)) t 8) → Q (vset (vset (vset (vset (vset (vset V t 12 (-1 : Int32)) t 9 (-1 : Int32)) t 10 y15) t 8 (0 : Int32)) t 11 (0 : Int32)) t 13 (0 : Int32)))
theorem mX6_begins {G : jG} {l : Launch} (htr : l.stackTraces = false) {sh : List jH} {V : Nat → Nat → Int32} {R : Nat → Nat → Option Nat} {t : Nat} (hT : jReg shX6 sh t) {Q : (Nat → Nat → Int32) → Prop} (hw : wX6_begins t V Q) : JM G l MX6_begins 0 0 0 [.ref t] (mk sh V R) (jWv sh R Q) jNo := by
  refine JM.intro (by decide) rfl htr (Nat.le_of_ble_eq_true rfl) ?_
  show J G l MX6_begins 0 0 0 0 [(0, .ref t)] [] (mk sh V R) _ _
  unfold wX6_begins at hw
  refine J.aload_n 0 dX6_begins_0 rfl ?_
  refine J.iconst (v := (-1 : Int32)) dX6_begins_1 (by decide) ?_
  refine pX6_25 rfl hT dX6_begins_2 ?_
  refine J.aload_n 0 dX6_begins_5 rfl ?_
  refine J.iconst (v := (-1 : Int32)) dX6_begins_6 (by decide) ?_
  refine pX6_84 rfl hT dX6_begins_7 ?_
  refine J.aload_n 0 dX6_begins_10 rfl ?_
  refine J.aload_n 0 dX6_begins_11 rfl ?_
  refine gX6_81 rfl hT dX6_begins_12 ?_
  refine J.nm hw (fun y15 hw => ?_)
  refine pX6_90 rfl hT dX6_begins_15 ?_
  refine J.aload_n 0 dX6_begins_18 rfl ?_
  refine J.iconst (v := (0 : Int32)) dX6_begins_19 (by decide) ?_
  refine pX6_81 rfl hT dX6_begins_20 ?_
  refine J.aload_n 0 dX6_begins_23 rfl ?_
  refine J.iconst (v := (0 : Int32)) dX6_begins_24 (by decide) ?_
  refine pX6_87 rfl hT dX6_begins_25 ?_
  refine J.aload_n 0 dX6_begins_28 rfl ?_
  refine J.iconst (v := (0 : Int32)) dX6_begins_29 (by decide) ?_
  refine pX6_179 rfl hT dX6_begins_30 ?_
  exact J.vret rfl dX6_begins_33 ⟨_, rfl, rfl, hw⟩
-- VisitingHoursModel.bits(I)I
abbrev MX6_bits : jM := (yX6_bits, cX6_bits, 3, some .int, [])
def wX6_bits_4 (a1 : Int32) (Q : Int32 → Prop) : Nat → Int32 → Int32 → Prop
  | 0, _, _ => False
  | f + 1, x1, x2 =>
    (((31 : Int32) ≤ x2 → Q x1) ∧ (¬ (31 : Int32) ≤ x2 → (∀ y17 : Int32, y17 = (x1 + ((a1 >>> (x2 &&& 31)) &&& (1 : Int32))) → (∀ y18 : Int32, y18 = x2 + (1 : Int32) → wX6_bits_4 a1 Q f y17 y18))))
theorem rX6_bits_4 {G : jG} {l : Launch} {d c n : Nat} (htr : l.stackTraces = false) (hdd : 0 ≤ d) {sh : List jH} {R : Nat → Nat → Option Nat} {V : Nat → Nat → Int32} {a1 : Int32} {Q : Int32 → Prop} : ∀ (f : Nat) (x1 : Int32) (x2 : Int32), wX6_bits_4 a1 Q f x1 x2 → J G l MX6_bits d c n 4 [(0, .int a1), (1, .int x1), (2, .int x2)] [] (mk sh V R) (jRd (mk sh V R) Q) jNo := by
  intro f
  induction f with
  | zero =>
    intro x1 x2 hw
    rw [wX6_bits_4] at hw
    exact hw.elim
  | succ f ih =>
    intro x1 x2 hw
    rw [wX6_bits_4] at hw
    refine J.iload_n 2 dX6_bits_4 rfl ?_
    refine J.bipush (v := (31 : Int32)) dX6_bits_5 (by decide) ?_
    refine J.icmp_ge 24 dX6_bits_7 (by decide) ⟨fun c7 => ?_, fun c7 => ?_⟩
    · have hw := hw.1 c7
      refine J.iload_n 1 dX6_bits_24 rfl ?_
      exact J.iret rfl dX6_bits_25 ⟨rfl, _, rfl, hw⟩
    · have hw := hw.2 c7
      refine J.iload_n 1 dX6_bits_10 rfl ?_
      refine J.iload_n 0 dX6_bits_11 rfl ?_
      refine J.iload_n 2 dX6_bits_12 rfl ?_
      refine J.ishr dX6_bits_13 ?_
      refine J.iconst (v := (1 : Int32)) dX6_bits_14 (by decide) ?_
      refine J.iand dX6_bits_15 ?_
      refine J.iadd dX6_bits_16 ?_
      refine J.nm hw (fun y17 hw => ?_)
      refine J.istore_n (lv' := [(1, .int y17), (0, .int a1), (2, .int x2)]) dX6_bits_17 (by decide) rfl ?_
      refine J.iincN 2 (K := (1 : Int32)) (lv' := fun y18 => [(2, .int y18), (1, .int y17), (0, .int a1)]) dX6_bits_18 rfl (by decide) (by decide) (fun _ => rfl) hw (fun y18 hw => ?_)
      refine J.goto 4 dX6_bits_21 (by decide) ?_
      exact J.pick [2, 1, 0] rfl (ih _ _ hw)
def wX6_bits (a1 : Int32) (Q : Int32 → Prop) : Prop :=
  (∃ f9, wX6_bits_4 a1 Q f9 (0 : Int32) (0 : Int32))
theorem mX6_bits {G : jG} {l : Launch} (htr : l.stackTraces = false) {sh : List jH} {V : Nat → Nat → Int32} {R : Nat → Nat → Option Nat} {a1 : Int32} {Q : Int32 → Prop} (hw : wX6_bits a1 Q) : JM G l MX6_bits 0 0 0 [.int a1] (mk sh V R) (jRd (mk sh V R) Q) jNo := by
  refine JM.intro (by decide) rfl htr (Nat.le_of_ble_eq_true rfl) ?_
  show J G l MX6_bits 0 0 0 0 [(0, .int a1)] [] (mk sh V R) _ _
  unfold wX6_bits at hw
  refine J.iconst (v := (0 : Int32)) dX6_bits_0 (by decide) ?_
  refine J.istore_n (lv' := [(1, .int (0 : Int32)), (0, .int a1)]) dX6_bits_1 (by decide) rfl ?_
  refine J.iconst (v := (0 : Int32)) dX6_bits_2 (by decide) ?_
  refine J.istore_n (lv' := [(2, .int (0 : Int32)), (1, .int (0 : Int32)), (0, .int a1)]) dX6_bits_3 (by decide) rfl ?_
  obtain ⟨f9, hw⟩ := hw
  exact J.pick [2, 1, 0] rfl (rX6_bits_4 htr (Nat.le_refl _) f9 _ _ hw)
theorem gX6_19 {G : jG} {l : Launch} {M : jM} {d c n pc : Nat} {lv : List (Nat × Value)} {st : List Value} {sh : List jH} {V : Nat → Nat → Int32} {R : Nat → Nat → Option Nat} {post : Option Value → List jC → Prop} {xp : String → List jC → Prop} {t : Nat} (hM : M.1.cls = RX6) (hT : jReg shX6 sh t) (hd : decode M.2.1 pc = .ok (.getfield 19, 3)) (kk : J G l M d c n (pc + 3) lv (.ref (t + 4) :: st) (mk sh V R) post xp) : J G l M d c n pc lv (.ref t :: st) (mk sh V R) post xp := JV.getf (C := RX6) (T0 := TX6) (N := 28) 5 hd hT.1 (hT.at 0 rfl) rfl in_X6 (by decide) (by rw [hM]; exact q2133) rfl rfl kk
theorem gX6_205 {G : jG} {l : Launch} {M : jM} {d c n pc : Nat} {lv : List (Nat × Value)} {st : List Value} {sh : List jH} {V : Nat → Nat → Int32} {R : Nat → Nat → Option Nat} {post : Option Value → List jC → Prop} {xp : String → List jC → Prop} {t : Nat} (hM : M.1.cls = RX6) (hT : jReg shX6 sh t) (hd : decode M.2.1 pc = .ok (.getfield 205, 3)) (kk : J G l M d c n (pc + 3) lv (.int (V t 6) :: st) (mk sh V R) post xp) : J G l M d c n pc lv (.ref t :: st) (mk sh V R) post xp := JV.getf (C := RX6) (T0 := TX6) (N := 28) 6 hd hT.1 (hT.at 0 rfl) rfl in_X6 (by decide) (by rw [hM]; exact q2134) rfl rfl kk
-- VisitingHoursModel.remembers()V
abbrev MX6_remembers : jM := (yX6_remembers, cX6_remembers, 2, none, [])
def wX6_remembers_52 (t : Nat) (Q : (Nat → Nat → Int32) → Prop) : Nat → (Nat → Nat → Int32) → Int32 → Prop
  | 0, _, _ => False
  | f + 1, V, x1 =>
    (((619 : Int32) ≤ x1 → (∀ y93 : Int32, y93 = ((V t 6) + (1 : Int32)) → Q (vset V t 6 y93))) ∧ (¬ (619 : Int32) ≤ x1 → (vp_in x1 1019 ∧ (∀ y79 : Int32, y79 = (V (t + 1) x1.toNatClampNeg) → (vp_in (((619 : Int32) * (V t 6)) + x1) 7428 ∧ (∀ y80 : Int32, y80 = x1 + (1 : Int32) → wX6_remembers_52 t Q f (vset V (t + 4) (((619 : Int32) * (V t 6)) + x1).toNatClampNeg y79) y80))))))
theorem rX6_remembers_52 {G : jG} {l : Launch} {d c n : Nat} (htr : l.stackTraces = false) (hdd : 0 ≤ d) {sh : List jH} {t : Nat} (hT : jReg shX6 sh t) {R : Nat → Nat → Option Nat} {Q : (Nat → Nat → Int32) → Prop} : ∀ (f : Nat) (V : Nat → Nat → Int32) (x1 : Int32), wX6_remembers_52 t Q f V x1 → J G l MX6_remembers d c n 52 [(0, .ref t), (1, .int x1)] [] (mk sh V R) (jWv sh R Q) jNo := by
  intro f
  induction f with
  | zero =>
    intro V x1 hw
    rw [wX6_remembers_52] at hw
    exact hw.elim
  | succ f ih =>
    intro V x1 hw
    rw [wX6_remembers_52] at hw
    refine J.iload_n 1 dX6_remembers_52 rfl ?_
    refine J.sipush (v := (619 : Int32)) dX6_remembers_53 (by decide) ?_
    refine J.icmp_ge 86 dX6_remembers_56 (by decide) ⟨fun c56 => ?_, fun c56 => ?_⟩
    · have hw := hw.1 c56
      refine J.aload_n 0 dX6_remembers_86 rfl ?_
      refine J.dup dX6_remembers_87 rfl ?_
      refine gX6_205 rfl hT dX6_remembers_88 ?_
      refine J.iconst (v := (1 : Int32)) dX6_remembers_91 (by decide) ?_
      refine J.iadd dX6_remembers_92 ?_
      refine J.nm hw (fun y93 hw => ?_)
      refine pX6_205 rfl hT dX6_remembers_93 ?_
      exact J.vret rfl dX6_remembers_96 ⟨_, rfl, rfl, hw⟩
    · have hw := hw.2 c56
      refine J.aload_n 0 dX6_remembers_59 rfl ?_
      refine gX6_19 rfl hT dX6_remembers_60 ?_
      refine J.sipush (v := (619 : Int32)) dX6_remembers_63 (by decide) ?_
      refine J.aload_n 0 dX6_remembers_66 rfl ?_
      refine gX6_205 rfl hT dX6_remembers_67 ?_
      refine J.imul dX6_remembers_70 ?_
      refine J.iload_n 1 dX6_remembers_71 rfl ?_
      refine J.iadd dX6_remembers_72 ?_
      refine J.aload_n 0 dX6_remembers_73 rfl ?_
      refine gX6_7 rfl hT dX6_remembers_74 ?_
      refine J.iload_n 1 dX6_remembers_77 rfl ?_
      obtain ⟨h78, hw⟩ := hw
      refine JV.iald dX6_remembers_78 (hT.ge 1) (hT.at 1 rfl) h78 ?_
      refine J.nm hw (fun y79 hw => ?_)
      obtain ⟨h79, hw⟩ := hw
      refine JV.iast dX6_remembers_79 (hT.ge 4) (hT.at 4 rfl) h79 ?_
      refine J.iincN 1 (K := (1 : Int32)) (lv' := fun y80 => [(1, .int y80), (0, .ref t)]) dX6_remembers_80 rfl (by decide) (by decide) (fun _ => rfl) hw (fun y80 hw => ?_)
      refine J.goto 52 dX6_remembers_83 (by decide) ?_
      exact J.pick [1, 0] rfl (ih _ _ hw)
def wX6_remembers_11 (t : Nat) (Q : (Nat → Nat → Int32) → Prop) : Nat → (Nat → Nat → Int32) → Int32 → Prop
  | 0, _, _ => False
  | f + 1, V, x1 =>
    (((6809 : Int32) ≤ x1 → (∀ y47 : Int32, y47 = ((V t 6) - (1 : Int32)) → (∃ f9, wX6_remembers_52 t Q f9 (vset V t 6 y47) (0 : Int32)))) ∧ (¬ (6809 : Int32) ≤ x1 → (vp_in (x1 + (619 : Int32)) 7428 ∧ (∀ y33 : Int32, y33 = (V (t + 4) (x1 + (619 : Int32)).toNatClampNeg) → (vp_in x1 7428 ∧ (∀ y34 : Int32, y34 = x1 + (1 : Int32) → wX6_remembers_11 t Q f (vset V (t + 4) x1.toNatClampNeg y33) y34))))))
theorem rX6_remembers_11 {G : jG} {l : Launch} {d c n : Nat} (htr : l.stackTraces = false) (hdd : 0 ≤ d) {sh : List jH} {t : Nat} (hT : jReg shX6 sh t) {R : Nat → Nat → Option Nat} {Q : (Nat → Nat → Int32) → Prop} : ∀ (f : Nat) (V : Nat → Nat → Int32) (x1 : Int32), wX6_remembers_11 t Q f V x1 → J G l MX6_remembers d c n 11 [(0, .ref t), (1, .int x1)] [] (mk sh V R) (jWv sh R Q) jNo := by
  intro f
  induction f with
  | zero =>
    intro V x1 hw
    rw [wX6_remembers_11] at hw
    exact hw.elim
  | succ f ih =>
    intro V x1 hw
    rw [wX6_remembers_11] at hw
    refine J.iload_n 1 dX6_remembers_11 rfl ?_
    refine J.sipush (v := (6809 : Int32)) dX6_remembers_12 (by decide) ?_
    refine J.icmp_ge 40 dX6_remembers_15 (by decide) ⟨fun c15 => ?_, fun c15 => ?_⟩
    · have hw := hw.1 c15
      refine J.aload_n 0 dX6_remembers_40 rfl ?_
      refine J.dup dX6_remembers_41 rfl ?_
      refine gX6_205 rfl hT dX6_remembers_42 ?_
      refine J.iconst (v := (1 : Int32)) dX6_remembers_45 (by decide) ?_
      refine J.isub dX6_remembers_46 ?_
      refine J.nm hw (fun y47 hw => ?_)
      refine pX6_205 rfl hT dX6_remembers_47 ?_
      refine J.iconst (v := (0 : Int32)) dX6_remembers_50 (by decide) ?_
      refine J.istore_n (lv' := [(1, .int (0 : Int32)), (0, .ref t)]) dX6_remembers_51 (by decide) rfl ?_
      obtain ⟨f9, hw⟩ := hw
      exact J.pick [1, 0] rfl (rX6_remembers_52 htr hdd hT f9 _ _ hw)
    · have hw := hw.2 c15
      refine J.aload_n 0 dX6_remembers_18 rfl ?_
      refine gX6_19 rfl hT dX6_remembers_19 ?_
      refine J.iload_n 1 dX6_remembers_22 rfl ?_
      refine J.aload_n 0 dX6_remembers_23 rfl ?_
      refine gX6_19 rfl hT dX6_remembers_24 ?_
      refine J.iload_n 1 dX6_remembers_27 rfl ?_
      refine J.sipush (v := (619 : Int32)) dX6_remembers_28 (by decide) ?_
      refine J.iadd dX6_remembers_31 ?_
      obtain ⟨h32, hw⟩ := hw
      refine JV.iald dX6_remembers_32 (hT.ge 4) (hT.at 4 rfl) h32 ?_
      refine J.nm hw (fun y33 hw => ?_)
      obtain ⟨h33, hw⟩ := hw
      refine JV.iast dX6_remembers_33 (hT.ge 4) (hT.at 4 rfl) h33 ?_
      refine J.iincN 1 (K := (1 : Int32)) (lv' := fun y34 => [(1, .int y34), (0, .ref t)]) dX6_remembers_34 rfl (by decide) (by decide) (fun _ => rfl) hw (fun y34 hw => ?_)
      refine J.goto 11 dX6_remembers_37 (by decide) ?_
      exact J.pick [1, 0] rfl (ih _ _ hw)
def wX6_remembers (t : Nat) (V : Nat → Nat → Int32) (Q : (Nat → Nat → Int32) → Prop) : Prop :=
  ((¬ (V t 6) = (12 : Int32) → (∃ f9, wX6_remembers_52 t Q f9 V (0 : Int32))) ∧ ((V t 6) = (12 : Int32) → (∃ f9, wX6_remembers_11 t Q f9 V (0 : Int32))))
theorem mX6_remembers {G : jG} {l : Launch} (htr : l.stackTraces = false) {sh : List jH} {V : Nat → Nat → Int32} {R : Nat → Nat → Option Nat} {t : Nat} (hT : jReg shX6 sh t) {Q : (Nat → Nat → Int32) → Prop} (hw : wX6_remembers t V Q) : JM G l MX6_remembers 0 0 0 [.ref t] (mk sh V R) (jWv sh R Q) jNo := by
  refine JM.intro (by decide) rfl htr (Nat.le_of_ble_eq_true rfl) ?_
  show J G l MX6_remembers 0 0 0 0 [(0, .ref t)] [] (mk sh V R) _ _
  unfold wX6_remembers at hw
  refine J.aload_n 0 dX6_remembers_0 rfl ?_
  refine gX6_205 rfl hT dX6_remembers_1 ?_
  refine J.bipush (v := (12 : Int32)) dX6_remembers_4 (by decide) ?_
  refine J.icmp_ne 50 dX6_remembers_6 (by decide) ⟨fun c6 => ?_, fun c6 => ?_⟩
  · have hw := hw.1 c6
    refine J.iconst (v := (0 : Int32)) dX6_remembers_50 (by decide) ?_
    refine J.istore_n (lv' := [(1, .int (0 : Int32)), (0, .ref t)]) dX6_remembers_51 (by decide) rfl ?_
    obtain ⟨f9, hw⟩ := hw
    exact J.pick [1, 0] rfl (rX6_remembers_52 htr (Nat.le_refl _) hT f9 _ _ hw)
  · have hw := hw.2 c6
    refine J.iconst (v := (0 : Int32)) dX6_remembers_9 (by decide) ?_
    refine J.istore_n (lv' := [(1, .int (0 : Int32)), (0, .ref t)]) dX6_remembers_10 (by decide) rfl ?_
    obtain ⟨f9, hw⟩ := hw
    exact J.pick [1, 0] rfl (rX6_remembers_11 htr (Nat.le_refl _) hT f9 _ _ hw)
theorem kX6_341 {G : jG} {l : Launch} {M : jM} {d c n pc : Nat} {lv : List (Nat × Value)} {rest : List Value} {post : Option Value → List jC → Prop} {xp : String → List jC → Prop} (hM : M.1.cls = RX6) (htr : l.stackTraces = false) {sh : List jH} {V : Nat → Nat → Int32} {R : Nat → Nat → Option Nat} {t : Nat} (hT : jReg shX6 sh t) {Q : (Nat → Nat → Int32) → Prop} (hd : decode M.2.1 pc = .ok (.invokevirtual 341, 3)) (hdd : 0 + 1 ≤ d) (hw8 : (rest.map fun v => v.category).sum ≤ 8) (hw : wX6_remembers t V Q) (kk : ∀ V', Q V' → J G l M d c n (pc + 3) lv rest (mk sh V' R) post xp) : J G l M d c n pc lv (.ref t :: rest) (mk sh V R) post xp :=
  J.callV (As := []) (hcw := by rw [hM]; exact lw_V q2501 q2503 qs116 q152 q2504) (mX6_remembers htr hT hw) hd rfl ⟨5, _, _, mk_at (hT.at 0 rfl), rfl, rfl, fun _ => rfl⟩ ⟨rfl, by decide, by decide, by show _ = some 0; decide +kernel⟩ hw8 ⟨hdd, by decide⟩ jcc0 (fun r9 g9 h9 => by obtain ⟨V9, rfl, rfl, h⟩ := h9; exact kk V9 h) jNo.x
-- VisitingHoursModel.sets(II)I
abbrev MX6_sets : jM := (yX6_sets, cX6_sets, 4, some .int, [])
def wX6_sets (t : Nat) (V : Nat → Nat → Int32) (a1 : Int32) (a2 : Int32) (Q : Int32 → (Nat → Nat → Int32) → Prop) : Prop :=
  wX6_remembers t V (fun V1 => (vp_in a1 1019 ∧ (∀ y10 : Int32, y10 = (V1 (t + 1) a1.toNatClampNeg) → (vp_in a1 1019 ∧ Q y10 (vset V1 (t + 1) a1.toNatClampNeg a2)))))
theorem mX6_sets {G : jG} {l : Launch} (htr : l.stackTraces = false) {sh : List jH} {V : Nat → Nat → Int32} {R : Nat → Nat → Option Nat} {t : Nat} (hT : jReg shX6 sh t) {a1 : Int32} {a2 : Int32} {Q : Int32 → (Nat → Nat → Int32) → Prop} (hw : wX6_sets t V a1 a2 Q) : JM G l MX6_sets 1 0 0 [.ref t, .int a1, .int a2] (mk sh V R) (jWr sh R Q) jNo := by
  refine JM.intro (by decide) rfl htr (Nat.le_of_ble_eq_true rfl) ?_
  show J G l MX6_sets 1 0 0 0 [(0, .ref t), (1, .int a1), (2, .int a2)] [] (mk sh V R) _ _
  unfold wX6_sets at hw
  refine J.aload_n 0 dX6_sets_0 rfl ?_
  refine kX6_341 rfl htr hT dX6_sets_1 (by omega) (Nat.le_of_ble_eq_true rfl) hw (fun V1 hw => ?_)
  refine J.aload_n 0 dX6_sets_4 rfl ?_
  refine gX6_7 rfl hT dX6_sets_5 ?_
  refine J.iload_n 1 dX6_sets_8 rfl ?_
  obtain ⟨h9, hw⟩ := hw
  refine JV.iald dX6_sets_9 (hT.ge 1) (hT.at 1 rfl) h9 ?_
  refine J.nm hw (fun y10 hw => ?_)
  refine J.istore_n (lv' := [(3, .int y10), (0, .ref t), (1, .int a1), (2, .int a2)]) dX6_sets_10 (by decide) rfl ?_
  refine J.aload_n 1 dX6_sets_11 rfl ?_
  refine gX6_7 rfl hT dX6_sets_12 ?_
  refine J.iload_n 2 dX6_sets_15 rfl ?_
  refine J.iload_n 3 dX6_sets_16 rfl ?_
  obtain ⟨h17, hw⟩ := hw
  refine JV.iast dX6_sets_17 (hT.ge 1) (hT.at 1 rfl) h17 ?_
  refine J.iload_n 0 dX6_sets_18 rfl ?_
  exact J.iret rfl dX6_sets_19 ⟨_, rfl, _, rfl, hw⟩
theorem kX6_334 {G : jG} {l : Launch} {M : jM} {d c n pc : Nat} {lv : List (Nat × Value)} {rest : List Value} {post : Option Value → List jC → Prop} {xp : String → List jC → Prop} (hM : M.1.cls = RX6) (htr : l.stackTraces = false) {sh : List jH} {V : Nat → Nat → Int32} {R : Nat → Nat → Option Nat} {t : Nat} (hT : jReg shX6 sh t) {a1 : Int32} {a2 : Int32} {a3 : Int32} {Q : Int32 → (Nat → Nat → Int32) → Prop} (hd : decode M.2.1 pc = .ok (.invokevirtual 334, 3)) (hdd : 2 + 1 ≤ d) (hw8 : (rest.map fun v => v.category).sum ≤ 8) (hw : wX6_areThere t V a1 a2 a3 Q) (kk : ∀ r V', Q r V' → J G l M d c n (pc + 3) lv (.int r :: rest) (mk sh V' R) post xp) : J G l M d c n pc lv (.int a3 :: .int a2 :: .int a1 :: .ref t :: rest) (mk sh V R) post xp :=
  J.callV (As := [.int a1, .int a2, .int a3]) (hcw := by rw [hM]; exact lw_V q2458 q2460 qs109 q152 q2461) (mX6_areThere htr hT hw) hd rfl ⟨5, _, _, mk_at (hT.at 0 rfl), rfl, rfl, fun _ => rfl⟩ ⟨rfl, by decide, by decide, by show _ = some 3; decide +kernel⟩ hw8 ⟨hdd, by decide⟩ jcc0 (fun r9 g9 h9 => by obtain ⟨V9, rfl, r, rfl, h⟩ := h9; exact kk r V9 h) jNo.x
theorem kX6_344 {G : jG} {l : Launch} {M : jM} {d c n pc : Nat} {lv : List (Nat × Value)} {rest : List Value} {post : Option Value → List jC → Prop} {xp : String → List jC → Prop} (hM : M.1.cls = RX6) (htr : l.stackTraces = false) {sh : List jH} {V : Nat → Nat → Int32} {R : Nat → Nat → Option Nat} {t : Nat} (hT : jReg shX6 sh t) {a1 : Int32} {a2 : Int32} {Q : Int32 → (Nat → Nat → Int32) → Prop} (hd : decode M.2.1 pc = .ok (.invokevirtual 344, 3)) (hdd : 1 + 1 ≤ d) (hw8 : (rest.map fun v => v.category).sum ≤ 8) (hw : wX6_sets t V a1 a2 Q) (kk : ∀ r V', Q r V' → J G l M d c n (pc + 3) lv (.int r :: rest) (mk sh V' R) post xp) : J G l M d c n pc lv (.int a2 :: .int a1 :: .ref t :: rest) (mk sh V R) post xp :=
  J.callV (As := [.int a1, .int a2]) (hcw := by rw [hM]; exact lw_V q2497 q2499 qs115 q152 q2500) (mX6_sets htr hT hw) hd rfl ⟨5, _, _, mk_at (hT.at 0 rfl), rfl, rfl, fun _ => rfl⟩ ⟨rfl, by decide, by decide, by show _ = some 2; decide +kernel⟩ hw8 ⟨hdd, by decide⟩ jcc0 (fun r9 g9 h9 => by obtain ⟨V9, rfl, r, rfl, h⟩ := h9; exact kk r V9 h) jNo.x
-- VisitingHoursModel.book(III)I
abbrev MX6_book : jM := (yX6_book, cX6_book, 4, some .int, [])
def wX6_book_40 (t : Nat) (a1 : Int32) (a2 : Int32) (a3 : Int32) (Q : Int32 → (Nat → Nat → Int32) → Prop) (V : Nat → Nat → Int32) (s1 : Int32) : Prop :=
  ((((vset V t 0 s1) t 0) ≤ 0 → wX6_sets t (vset V t 0 s1) (((195 : Int32) + ((8 : Int32) * a1)) + a3) a2 (fun r66 V66 => Q r66 V66)) ∧ (¬ ((vset V t 0 s1) t 0) ≤ 0 → Q (0 : Int32) (vset V t 0 s1)))
theorem rX6_book_40 {G : jG} {l : Launch} {d c n : Nat} (htr : l.stackTraces = false) (hdd : 3 ≤ d) {sh : List jH} {t : Nat} (hT : jReg shX6 sh t) {R : Nat → Nat → Option Nat} {a1 : Int32} {a2 : Int32} {a3 : Int32} {Q : Int32 → (Nat → Nat → Int32) → Prop} {V : Nat → Nat → Int32} {s1 : Int32} (hw : wX6_book_40 t a1 a2 a3 Q V s1) : J G l MX6_book d c n 40 [(0, .ref t), (1, .int a1), (2, .int a2), (3, .int a3)] [.int s1, .ref t] (mk sh V R) (jWr sh R Q) jNo := by
  unfold wX6_book_40 at hw
  refine pX6_54 rfl hT dX6_book_40 ?_
  refine J.aload_n 0 dX6_book_43 rfl ?_
  refine gX6_54 rfl hT dX6_book_44 ?_
  refine J.if_le 54 dX6_book_47 (by decide) ⟨fun c47 => ?_, fun c47 => ?_⟩
  · have hw := hw.1 c47
    refine J.aload_n 0 dX6_book_54 rfl ?_
    refine J.sipush (v := (195 : Int32)) dX6_book_55 (by decide) ?_
    refine J.bipush (v := (8 : Int32)) dX6_book_58 (by decide) ?_
    refine J.iload_n 1 dX6_book_60 rfl ?_
    refine J.imul dX6_book_61 ?_
    refine J.iadd dX6_book_62 ?_
    refine J.iload_n 3 dX6_book_63 rfl ?_
    refine J.iadd dX6_book_64 ?_
    refine J.iload_n 2 dX6_book_65 rfl ?_
    refine kX6_344 rfl htr hT dX6_book_66 (by omega) (Nat.le_of_ble_eq_true rfl) hw (fun r66 V66 hw => ?_)
    exact J.iret rfl dX6_book_69 ⟨_, rfl, _, rfl, hw⟩
  · have hw := hw.2 c47
    refine J.iconst (v := (0 : Int32)) dX6_book_50 (by decide) ?_
    refine J.goto 69 dX6_book_51 (by decide) ?_
    exact J.iret rfl dX6_book_69 ⟨_, rfl, _, rfl, hw⟩
def wX6_book_35 (t : Nat) (a1 : Int32) (a2 : Int32) (a3 : Int32) (Q : Int32 → (Nat → Nat → Int32) → Prop) (V : Nat → Nat → Int32) : Prop :=
  wX6_book_40 t a1 a2 a3 Q V (2 : Int32)
theorem rX6_book_35 {G : jG} {l : Launch} {d c n : Nat} (htr : l.stackTraces = false) (hdd : 3 ≤ d) {sh : List jH} {t : Nat} (hT : jReg shX6 sh t) {R : Nat → Nat → Option Nat} {a1 : Int32} {a2 : Int32} {a3 : Int32} {Q : Int32 → (Nat → Nat → Int32) → Prop} {V : Nat → Nat → Int32} (hw : wX6_book_35 t a1 a2 a3 Q V) : J G l MX6_book d c n 35 [(0, .ref t), (1, .int a1), (2, .int a2), (3, .int a3)] [.ref t] (mk sh V R) (jWr sh R Q) jNo := by
  unfold wX6_book_35 at hw
  refine J.iconst (v := (2 : Int32)) dX6_book_35 (by decide) ?_
  refine J.goto 40 dX6_book_36 (by decide) ?_
  exact (rX6_book_40 htr hdd hT hw)
def wX6_book (t : Nat) (V : Nat → Nat → Int32) (a1 : Int32) (a2 : Int32) (a3 : Int32) (Q : Int32 → (Nat → Nat → Int32) → Prop) : Prop :=
  wX6_areThere t V a1 a2 a3 (fun r4 V4 => ((¬ r4 = 0 → wX6_canMeet t V4 a1 a2 a3 (fun r17 => ((r17 = 0 → wX6_book_35 t a1 a2 a3 Q V4) ∧ (¬ r17 = 0 → wX6_busyOf t V4 a2 (fun r25 => wX6_isOf r25 a3 (fun r29 => ((r29 = 0 → wX6_book_40 t a1 a2 a3 Q V4 (0 : Int32)) ∧ (¬ r29 = 0 → wX6_book_35 t a1 a2 a3 Q V4)))))))) ∧ (r4 = 0 → Q (0 : Int32) V4)))
theorem mX6_book {G : jG} {l : Launch} (htr : l.stackTraces = false) {sh : List jH} {V : Nat → Nat → Int32} {R : Nat → Nat → Option Nat} {t : Nat} (hT : jReg shX6 sh t) {a1 : Int32} {a2 : Int32} {a3 : Int32} {Q : Int32 → (Nat → Nat → Int32) → Prop} (hw : wX6_book t V a1 a2 a3 Q) : JM G l MX6_book 3 0 0 [.ref t, .int a1, .int a2, .int a3] (mk sh V R) (jWr sh R Q) jNo := by
  refine JM.intro (by decide) rfl htr (Nat.le_of_ble_eq_true rfl) ?_
  show J G l MX6_book 3 0 0 0 [(0, .ref t), (1, .int a1), (2, .int a2), (3, .int a3)] [] (mk sh V R) _ _
  unfold wX6_book at hw
  refine J.aload_n 0 dX6_book_0 rfl ?_
  refine J.iload_n 1 dX6_book_1 rfl ?_
  refine J.iload_n 2 dX6_book_2 rfl ?_
  refine J.iload_n 3 dX6_book_3 rfl ?_
  refine kX6_334 rfl htr hT dX6_book_4 (by omega) (Nat.le_of_ble_eq_true rfl) hw (fun r4 V4 hw => ?_)
  refine J.if_ne 12 dX6_book_7 (by decide) ⟨fun c7 => ?_, fun c7 => ?_⟩
  · have hw := hw.1 c7
    refine J.aload_n 0 dX6_book_12 rfl ?_
    refine J.aload_n 0 dX6_book_13 rfl ?_
    refine J.iload_n 1 dX6_book_14 rfl ?_
    refine J.iload_n 2 dX6_book_15 rfl ?_
    refine J.iload_n 3 dX6_book_16 rfl ?_
    refine kX6_280 rfl htr hT dX6_book_17 (by omega) (Nat.le_of_ble_eq_true rfl) hw (fun r17 hw => ?_)
    refine J.if_eq 35 dX6_book_20 (by decide) ⟨fun c20 => ?_, fun c20 => ?_⟩
    · have hw := hw.1 c20
      exact (rX6_book_35 htr (Nat.le_refl _) hT hw)
    · have hw := hw.2 c20
      refine J.aload_n 0 dX6_book_23 rfl ?_
      refine J.iload_n 2 dX6_book_24 rfl ?_
      refine kX6_325 rfl htr hT dX6_book_25 (by omega) (Nat.le_of_ble_eq_true rfl) hw (fun r25 hw => ?_)
      refine J.iload_n 3 dX6_book_28 rfl ?_
      refine kX6_74 rfl htr dX6_book_29 (by omega) (Nat.le_of_ble_eq_true rfl) hw (fun r29 hw => ?_)
      refine J.if_eq 39 dX6_book_32 (by decide) ⟨fun c32 => ?_, fun c32 => ?_⟩
      · have hw := hw.1 c32
        refine J.iconst (v := (0 : Int32)) dX6_book_39 (by decide) ?_
        exact (rX6_book_40 htr (Nat.le_refl _) hT hw)
      · have hw := hw.2 c32
        exact (rX6_book_35 htr (Nat.le_refl _) hT hw)
  · have hw := hw.2 c7
    refine J.iconst (v := (0 : Int32)) dX6_book_10 (by decide) ?_
    exact J.iret rfl dX6_book_11 ⟨_, rfl, _, rfl, hw⟩
-- VisitingHoursModel.booked(II)I
abbrev MX6_booked : jM := (yX6_booked, cX6_booked, 3, some .int, [])
def wX6_booked_21 (t : Nat) (a1 : Int32) (a2 : Int32) (Q : Int32 → (Nat → Nat → Int32) → Prop) (V : Nat → Nat → Int32) (s1 : Int32) : Prop :=
  ((((vset V t 0 s1) t 0) ≤ 0 → wX6_bookedIn t (vset V t 0 s1) a1 a2 (fun r38 => Q r38 (vset V t 0 s1))) ∧ (¬ ((vset V t 0 s1) t 0) ≤ 0 → Q (0 : Int32) (vset V t 0 s1)))
theorem rX6_booked_21 {G : jG} {l : Launch} {d c n : Nat} (htr : l.stackTraces = false) (hdd : 2 ≤ d) {sh : List jH} {t : Nat} (hT : jReg shX6 sh t) {R : Nat → Nat → Option Nat} {a1 : Int32} {a2 : Int32} {Q : Int32 → (Nat → Nat → Int32) → Prop} {V : Nat → Nat → Int32} {s1 : Int32} (hw : wX6_booked_21 t a1 a2 Q V s1) : J G l MX6_booked d c n 21 [(0, .ref t), (1, .int a1), (2, .int a2)] [.int s1, .ref t] (mk sh V R) (jWr sh R Q) jNo := by
  unfold wX6_booked_21 at hw
  refine pX6_54 rfl hT dX6_booked_21 ?_
  refine J.aload_n 0 dX6_booked_24 rfl ?_
  refine gX6_54 rfl hT dX6_booked_25 ?_
  refine J.if_le 35 dX6_booked_28 (by decide) ⟨fun c28 => ?_, fun c28 => ?_⟩
  · have hw := hw.1 c28
    refine J.aload_n 0 dX6_booked_35 rfl ?_
    refine J.iload_n 1 dX6_booked_36 rfl ?_
    refine J.iload_n 2 dX6_booked_37 rfl ?_
    refine kX6_271 rfl htr hT dX6_booked_38 (by omega) (Nat.le_of_ble_eq_true rfl) hw (fun r38 hw => ?_)
    exact J.iret rfl dX6_booked_41 ⟨_, rfl, _, rfl, hw⟩
  · have hw := hw.2 c28
    refine J.iconst (v := (0 : Int32)) dX6_booked_31 (by decide) ?_
    refine J.goto 41 dX6_booked_32 (by decide) ?_
    exact J.iret rfl dX6_booked_41 ⟨_, rfl, _, rfl, hw⟩
def wX6_booked_16 (t : Nat) (a1 : Int32) (a2 : Int32) (Q : Int32 → (Nat → Nat → Int32) → Prop) (V : Nat → Nat → Int32) : Prop :=
  wX6_booked_21 t a1 a2 Q V (1 : Int32)
theorem rX6_booked_16 {G : jG} {l : Launch} {d c n : Nat} (htr : l.stackTraces = false) (hdd : 2 ≤ d) {sh : List jH} {t : Nat} (hT : jReg shX6 sh t) {R : Nat → Nat → Option Nat} {a1 : Int32} {a2 : Int32} {Q : Int32 → (Nat → Nat → Int32) → Prop} {V : Nat → Nat → Int32} (hw : wX6_booked_16 t a1 a2 Q V) : J G l MX6_booked d c n 16 [(0, .ref t), (1, .int a1), (2, .int a2)] [.ref t] (mk sh V R) (jWr sh R Q) jNo := by
  unfold wX6_booked_16 at hw
  refine J.iconst (v := (1 : Int32)) dX6_booked_16 (by decide) ?_
  refine J.goto 21 dX6_booked_17 (by decide) ?_
  exact (rX6_booked_21 htr hdd hT hw)
def wX6_booked (t : Nat) (V : Nat → Nat → Int32) (a1 : Int32) (a2 : Int32) (Q : Int32 → (Nat → Nat → Int32) → Prop) : Prop :=
  wX6_isHost t V a1 (fun r3 => ((r3 = 0 → wX6_booked_16 t a1 a2 Q V) ∧ (¬ r3 = 0 → wX6_isQuarter a2 (fun r10 => ((¬ r10 = 0 → wX6_booked_21 t a1 a2 Q V (0 : Int32)) ∧ (r10 = 0 → wX6_booked_16 t a1 a2 Q V))))))
theorem mX6_booked {G : jG} {l : Launch} (htr : l.stackTraces = false) {sh : List jH} {V : Nat → Nat → Int32} {R : Nat → Nat → Option Nat} {t : Nat} (hT : jReg shX6 sh t) {a1 : Int32} {a2 : Int32} {Q : Int32 → (Nat → Nat → Int32) → Prop} (hw : wX6_booked t V a1 a2 Q) : JM G l MX6_booked 2 0 0 [.ref t, .int a1, .int a2] (mk sh V R) (jWr sh R Q) jNo := by
  refine JM.intro (by decide) rfl htr (Nat.le_of_ble_eq_true rfl) ?_
  show J G l MX6_booked 2 0 0 0 [(0, .ref t), (1, .int a1), (2, .int a2)] [] (mk sh V R) _ _
  unfold wX6_booked at hw
  refine J.aload_n 0 dX6_booked_0 rfl ?_
  refine J.aload_n 0 dX6_booked_1 rfl ?_
  refine J.iload_n 1 dX6_booked_2 rfl ?_
  refine kX6_310 rfl htr hT dX6_booked_3 (by omega) (Nat.le_of_ble_eq_true rfl) hw (fun r3 hw => ?_)
  refine J.if_eq 16 dX6_booked_6 (by decide) ⟨fun c6 => ?_, fun c6 => ?_⟩
  · have hw := hw.1 c6
    exact (rX6_booked_16 htr (Nat.le_refl _) hT hw)
  · have hw := hw.2 c6
    refine J.iload_n 2 dX6_booked_9 rfl ?_
    refine kX6_331 rfl htr dX6_booked_10 (by omega) (Nat.le_of_ble_eq_true rfl) hw (fun r10 hw => ?_)
    refine J.if_ne 20 dX6_booked_13 (by decide) ⟨fun c13 => ?_, fun c13 => ?_⟩
    · have hw := hw.1 c13
      refine J.iconst (v := (0 : Int32)) dX6_booked_20 (by decide) ?_
      exact (rX6_booked_21 htr (Nat.le_refl _) hT hw)
    · have hw := hw.2 c13
      exact (rX6_booked_16 htr (Nat.le_refl _) hT hw)
-- VisitingHoursModel.bookings()I
abbrev MX6_bookings : jM := (yX6_bookings, cX6_bookings, 4, some .int, [])
def wX6_bookings_16 (t : Nat) (V : Nat → Nat → Int32) (Q : Int32 → Prop) (K4 : Int32 → Int32 → Prop) : Nat → Int32 → Int32 → Int32 → Prop
  | 0, _, _, _ => False
  | f + 1, x1, x2, x3 =>
    (((8 : Int32) ≤ x3 → (∀ y46 : Int32, y46 = x2 + (1 : Int32) → K4 x1 y46)) ∧ (¬ (8 : Int32) ≤ x3 → wX6_bookedIn t V x2 x3 (fun r26 => ((¬ r26 = (-1 : Int32) → (∀ y39 : Int32, y39 = (x1 + (1 : Int32)) → (∀ y40 : Int32, y40 = x3 + (1 : Int32) → wX6_bookings_16 t V Q K4 f y39 x2 y40))) ∧ (r26 = (-1 : Int32) → (∀ y39 : Int32, y39 = (x1 + (0 : Int32)) → (∀ y40 : Int32, y40 = x3 + (1 : Int32) → wX6_bookings_16 t V Q K4 f y39 x2 y40)))))))
theorem rX6_bookings_16 {G : jG} {l : Launch} {d c n : Nat} (htr : l.stackTraces = false) (hdd : 1 ≤ d) {sh : List jH} {t : Nat} (hT : jReg shX6 sh t) {R : Nat → Nat → Option Nat} {V : Nat → Nat → Int32} {Q : Int32 → Prop} {K4 : Int32 → Int32 → Prop} (hK4 : ∀ (x1 : Int32) (x2 : Int32), K4 x1 x2 → J G l MX6_bookings d c n 4 [(0, .ref t), (1, .int x1), (2, .int x2)] [] (mk sh V R) (jRd (mk sh V R) Q) jNo) : ∀ (f : Nat) (x1 : Int32) (x2 : Int32) (x3 : Int32), wX6_bookings_16 t V Q K4 f x1 x2 x3 → J G l MX6_bookings d c n 16 [(0, .ref t), (1, .int x1), (2, .int x2), (3, .int x3)] [] (mk sh V R) (jRd (mk sh V R) Q) jNo := by
  intro f
  induction f with
  | zero =>
    intro x1 x2 x3 hw
    rw [wX6_bookings_16] at hw
    exact hw.elim
  | succ f ih =>
    intro x1 x2 x3 hw
    rw [wX6_bookings_16] at hw
    refine J.iload_n 3 dX6_bookings_16 rfl ?_
    refine J.bipush (v := (8 : Int32)) dX6_bookings_17 (by decide) ?_
    refine J.icmp_ge 46 dX6_bookings_19 (by decide) ⟨fun c19 => ?_, fun c19 => ?_⟩
    · have hw := hw.1 c19
      refine J.iincN 2 (K := (1 : Int32)) (lv' := fun y46 => [(2, .int y46), (0, .ref t), (1, .int x1), (3, .int x3)]) dX6_bookings_46 rfl (by decide) (by decide) (fun _ => rfl) hw (fun y46 hw => ?_)
      refine J.goto 4 dX6_bookings_49 (by decide) ?_
      exact J.pick [1, 2, 0] rfl (hK4 _ _ hw)
    · have hw := hw.2 c19
      refine J.iload_n 1 dX6_bookings_22 rfl ?_
      refine J.aload_n 0 dX6_bookings_23 rfl ?_
      refine J.iload_n 2 dX6_bookings_24 rfl ?_
      refine J.iload_n 3 dX6_bookings_25 rfl ?_
      refine kX6_271 rfl htr hT dX6_bookings_26 (by omega) (Nat.le_of_ble_eq_true rfl) hw (fun r26 hw => ?_)
      refine J.iconst (v := (-1 : Int32)) dX6_bookings_29 (by decide) ?_
      refine J.icmp_ne 37 dX6_bookings_30 (by decide) ⟨fun c30 => ?_, fun c30 => ?_⟩
      · have hw := hw.1 c30
        refine J.iconst (v := (1 : Int32)) dX6_bookings_37 (by decide) ?_
        refine J.iadd dX6_bookings_38 ?_
        refine J.nm hw (fun y39 hw => ?_)
        refine J.istore_n (lv' := [(1, .int y39), (0, .ref t), (2, .int x2), (3, .int x3)]) dX6_bookings_39 (by decide) rfl ?_
        refine J.iincN 3 (K := (1 : Int32)) (lv' := fun y40 => [(3, .int y40), (1, .int y39), (0, .ref t), (2, .int x2)]) dX6_bookings_40 rfl (by decide) (by decide) (fun _ => rfl) hw (fun y40 hw => ?_)
        refine J.goto 16 dX6_bookings_43 (by decide) ?_
        exact J.pick [2, 1, 3, 0] rfl (ih _ _ _ hw)
      · have hw := hw.2 c30
        refine J.iconst (v := (0 : Int32)) dX6_bookings_33 (by decide) ?_
        refine J.goto 38 dX6_bookings_34 (by decide) ?_
        refine J.iadd dX6_bookings_38 ?_
        refine J.nm hw (fun y39 hw => ?_)
        refine J.istore_n (lv' := [(1, .int y39), (0, .ref t), (2, .int x2), (3, .int x3)]) dX6_bookings_39 (by decide) rfl ?_
        refine J.iincN 3 (K := (1 : Int32)) (lv' := fun y40 => [(3, .int y40), (1, .int y39), (0, .ref t), (2, .int x2)]) dX6_bookings_40 rfl (by decide) (by decide) (fun _ => rfl) hw (fun y40 hw => ?_)
        refine J.goto 16 dX6_bookings_43 (by decide) ?_
        exact J.pick [2, 1, 3, 0] rfl (ih _ _ _ hw)
def wX6_bookings_4 (t : Nat) (V : Nat → Nat → Int32) (Q : Int32 → Prop) : Nat → Int32 → Int32 → Prop
  | 0, _, _ => False
  | f + 1, x1, x2 =>
    (((V (t + 1) 3) ≤ x2 → Q x1) ∧ (¬ (V (t + 1) 3) ≤ x2 → (∃ f9, wX6_bookings_16 t V Q (fun x1 x2 => wX6_bookings_4 t V Q f x1 x2) f9 x1 x2 (0 : Int32))))
theorem rX6_bookings_4 {G : jG} {l : Launch} {d c n : Nat} (htr : l.stackTraces = false) (hdd : 1 ≤ d) {sh : List jH} {t : Nat} (hT : jReg shX6 sh t) {R : Nat → Nat → Option Nat} {V : Nat → Nat → Int32} {Q : Int32 → Prop} : ∀ (f : Nat) (x1 : Int32) (x2 : Int32), wX6_bookings_4 t V Q f x1 x2 → J G l MX6_bookings d c n 4 [(0, .ref t), (1, .int x1), (2, .int x2)] [] (mk sh V R) (jRd (mk sh V R) Q) jNo := by
  intro f
  induction f with
  | zero =>
    intro x1 x2 hw
    rw [wX6_bookings_4] at hw
    exact hw.elim
  | succ f ih =>
    intro x1 x2 hw
    rw [wX6_bookings_4] at hw
    refine J.iload_n 2 dX6_bookings_4 rfl ?_
    refine J.aload_n 0 dX6_bookings_5 rfl ?_
    refine gX6_7 rfl hT dX6_bookings_6 ?_
    refine J.iconst (v := (3 : Int32)) dX6_bookings_9 (by decide) ?_
    refine JV.ialdK 3 dX6_bookings_10 (hT.ge 1) (hT.at 1 rfl) rfl (by decide) (by decide) ?_
    refine J.icmp_ge 52 dX6_bookings_11 (by decide) ⟨fun c11 => ?_, fun c11 => ?_⟩
    · have hw := hw.1 c11
      refine J.iload_n 1 dX6_bookings_52 rfl ?_
      exact J.iret rfl dX6_bookings_53 ⟨rfl, _, rfl, hw⟩
    · have hw := hw.2 c11
      refine J.iconst (v := (0 : Int32)) dX6_bookings_14 (by decide) ?_
      refine J.istore_n (lv' := [(3, .int (0 : Int32)), (0, .ref t), (1, .int x1), (2, .int x2)]) dX6_bookings_15 (by decide) rfl ?_
      obtain ⟨f9, hw⟩ := hw
      exact J.pick [1, 2, 3, 0] rfl (rX6_bookings_16 htr hdd hT ih f9 _ _ _ hw)
def wX6_bookings (t : Nat) (V : Nat → Nat → Int32) (Q : Int32 → Prop) : Prop :=
  (∃ f9, wX6_bookings_4 t V Q f9 (0 : Int32) (0 : Int32))
theorem mX6_bookings {G : jG} {l : Launch} (htr : l.stackTraces = false) {sh : List jH} {V : Nat → Nat → Int32} {R : Nat → Nat → Option Nat} {t : Nat} (hT : jReg shX6 sh t) {Q : Int32 → Prop} (hw : wX6_bookings t V Q) : JM G l MX6_bookings 1 0 0 [.ref t] (mk sh V R) (jRd (mk sh V R) Q) jNo := by
  refine JM.intro (by decide) rfl htr (Nat.le_of_ble_eq_true rfl) ?_
  show J G l MX6_bookings 1 0 0 0 [(0, .ref t)] [] (mk sh V R) _ _
  unfold wX6_bookings at hw
  refine J.iconst (v := (0 : Int32)) dX6_bookings_0 (by decide) ?_
  refine J.istore_n (lv' := [(1, .int (0 : Int32)), (0, .ref t)]) dX6_bookings_1 (by decide) rfl ?_
  refine J.iconst (v := (0 : Int32)) dX6_bookings_2 (by decide) ?_
  refine J.istore_n (lv' := [(2, .int (0 : Int32)), (1, .int (0 : Int32)), (0, .ref t)]) dX6_bookings_3 (by decide) rfl ?_
  obtain ⟨f9, hw⟩ := hw
  exact J.pick [2, 1, 0] rfl (rX6_bookings_4 htr (Nat.le_refl _) hT f9 _ _ hw)
-- VisitingHoursModel.can(III)Z
abbrev MX6_can : jM := (yX6_can, cX6_can, 4, some .boolean, [])
def wX6_can (t : Nat) (V : Nat → Nat → Int32) (a1 : Int32) (a2 : Int32) (a3 : Int32) (Q : Int32 → (Nat → Nat → Int32) → Prop) : Prop :=
  wX6_areThere t V a1 a2 a3 (fun r4 V4 => ((r4 = 0 → Q (0 : Int32) V4) ∧ (¬ r4 = 0 → wX6_canMeet t V4 a1 a2 a3 (fun r14 => ((r14 = 0 → Q (0 : Int32) V4) ∧ (¬ r14 = 0 → Q (1 : Int32) V4))))))
theorem mX6_can {G : jG} {l : Launch} (htr : l.stackTraces = false) {sh : List jH} {V : Nat → Nat → Int32} {R : Nat → Nat → Option Nat} {t : Nat} (hT : jReg shX6 sh t) {a1 : Int32} {a2 : Int32} {a3 : Int32} {Q : Int32 → (Nat → Nat → Int32) → Prop} (hw : wX6_can t V a1 a2 a3 Q) : JM G l MX6_can 3 0 0 [.ref t, .int a1, .int a2, .int a3] (mk sh V R) (jWr sh R Q) jNo := by
  refine JM.intro (by decide) rfl htr (Nat.le_of_ble_eq_true rfl) ?_
  show J G l MX6_can 3 0 0 0 [(0, .ref t), (1, .int a1), (2, .int a2), (3, .int a3)] [] (mk sh V R) _ _
  unfold wX6_can at hw
  refine J.aload_n 0 dX6_can_0 rfl ?_
  refine J.iload_n 1 dX6_can_1 rfl ?_
  refine J.iload_n 2 dX6_can_2 rfl ?_
  refine J.iload_n 3 dX6_can_3 rfl ?_
  refine kX6_334 rfl htr hT dX6_can_4 (by omega) (Nat.le_of_ble_eq_true rfl) hw (fun r4 V4 hw => ?_)
  refine J.if_eq 24 dX6_can_7 (by decide) ⟨fun c7 => ?_, fun c7 => ?_⟩
  · have hw := hw.1 c7
    refine J.iconst (v := (0 : Int32)) dX6_can_24 (by decide) ?_
    exact J.zret rfl rfl dX6_can_25 ⟨_, rfl, _, rfl, hw⟩
  · have hw := hw.2 c7
    refine J.aload_n 0 dX6_can_10 rfl ?_
    refine J.iload_n 1 dX6_can_11 rfl ?_
    refine J.iload_n 2 dX6_can_12 rfl ?_
    refine J.iload_n 3 dX6_can_13 rfl ?_
    refine kX6_280 rfl htr hT dX6_can_14 (by omega) (Nat.le_of_ble_eq_true rfl) hw (fun r14 hw => ?_)
    refine J.if_eq 24 dX6_can_17 (by decide) ⟨fun c17 => ?_, fun c17 => ?_⟩
    · have hw := hw.1 c17
      refine J.iconst (v := (0 : Int32)) dX6_can_24 (by decide) ?_
      exact J.zret rfl rfl dX6_can_25 ⟨_, rfl, _, rfl, hw⟩
    · have hw := hw.2 c17
      refine J.iconst (v := (1 : Int32)) dX6_can_20 (by decide) ?_
      refine J.goto 25 dX6_can_21 (by decide) ?_
      exact J.zret rfl rfl dX6_can_25 ⟨_, rfl, _, rfl, hw⟩
-- VisitingHoursModel.change(III)I
abbrev MX6_change : jM := (yX6_change, cX6_change, 6, some .int, [])
def wX6_change_38 (t : Nat) (a1 : Int32) (a2 : Int32) (a3 : Int32) (Q : Int32 → (Nat → Nat → Int32) → Prop) (V : Nat → Nat → Int32) (s1 : Int32) : Prop :=
  ((((vset V t 0 s1) t 0) ≤ 0 → wX6_bookedIn t (vset V t 0 s1) a2 a3 (fun r53 => wX6_sets t (vset V t 0 s1) (((195 : Int32) + ((8 : Int32) * a1)) + a3) r53 (fun r71 V71 => (vp_in (((195 : Int32) + ((8 : Int32) * a2)) + a3) 1019 ∧ Q r53 (vset V71 (t + 1) (((195 : Int32) + ((8 : Int32) * a2)) + a3).toNatClampNeg r71))))) ∧ (¬ ((vset V t 0 s1) t 0) ≤ 0 → Q (0 : Int32) (vset V t 0 s1)))
theorem rX6_change_38 {G : jG} {l : Launch} {d c n : Nat} (htr : l.stackTraces = false) (hdd : 2 ≤ d) {sh : List jH} {t : Nat} (hT : jReg shX6 sh t) {R : Nat → Nat → Option Nat} {a1 : Int32} {a2 : Int32} {a3 : Int32} {Q : Int32 → (Nat → Nat → Int32) → Prop} {V : Nat → Nat → Int32} {s1 : Int32} (hw : wX6_change_38 t a1 a2 a3 Q V s1) : J G l MX6_change d c n 38 [(0, .ref t), (1, .int a1), (2, .int a2), (3, .int a3)] [.int s1, .ref t] (mk sh V R) (jWr sh R Q) jNo := by
  unfold wX6_change_38 at hw
  refine pX6_54 rfl hT dX6_change_38 ?_
  refine J.aload_n 0 dX6_change_41 rfl ?_
  refine gX6_54 rfl hT dX6_change_42 ?_
  refine J.if_le 50 dX6_change_45 (by decide) ⟨fun c45 => ?_, fun c45 => ?_⟩
  · have hw := hw.1 c45
    refine J.aload_n 0 dX6_change_50 rfl ?_
    refine J.iload_n 2 dX6_change_51 rfl ?_
    refine J.iload_n 3 dX6_change_52 rfl ?_
    refine kX6_271 rfl htr hT dX6_change_53 (by omega) (Nat.le_of_ble_eq_true rfl) hw (fun r53 hw => ?_)
    refine J.istore (lv' := [(4, .int r53), (0, .ref t), (1, .int a1), (2, .int a2), (3, .int a3)]) dX6_change_56 (by decide) rfl ?_
    refine J.aload_n 1 dX6_change_58 rfl ?_
    refine J.sipush (v := (195 : Int32)) dX6_change_59 (by decide) ?_
    refine J.bipush (v := (8 : Int32)) dX6_change_62 (by decide) ?_
    refine J.iload_n 2 dX6_change_64 rfl ?_
    refine J.imul dX6_change_65 ?_
    refine J.iadd dX6_change_66 ?_
    refine J.iload_n 4 dX6_change_67 rfl ?_
    refine J.iadd dX6_change_68 ?_
    refine J.iload 0 dX6_change_69 rfl ?_
    refine kX6_344 rfl htr hT dX6_change_71 (by omega) (Nat.le_of_ble_eq_true rfl) hw (fun r71 V71 hw => ?_)
    refine J.istore (lv' := [(5, .int r71), (4, .int r53), (0, .ref t), (1, .int a1), (2, .int a2), (3, .int a3)]) dX6_change_74 (by decide) rfl ?_
    refine J.aload_n 2 dX6_change_76 rfl ?_
    refine gX6_7 rfl hT dX6_change_77 ?_
    refine J.sipush (v := (195 : Int32)) dX6_change_80 (by decide) ?_
    refine J.bipush (v := (8 : Int32)) dX6_change_83 (by decide) ?_
    refine J.iload_n 4 dX6_change_85 rfl ?_
    refine J.imul dX6_change_86 ?_
    refine J.iadd dX6_change_87 ?_
    refine J.iload_n 5 dX6_change_88 rfl ?_
    refine J.iadd dX6_change_89 ?_
    refine J.iload 0 dX6_change_90 rfl ?_
    obtain ⟨h92, hw⟩ := hw
    refine JV.iast dX6_change_92 (hT.ge 1) (hT.at 1 rfl) h92 ?_
    refine J.iload 1 dX6_change_93 rfl ?_
    exact J.iret rfl dX6_change_95 ⟨_, rfl, _, rfl, hw⟩
  · have hw := hw.2 c45
    refine J.iconst (v := (0 : Int32)) dX6_change_48 (by decide) ?_
    exact J.iret rfl dX6_change_49 ⟨_, rfl, _, rfl, hw⟩
def wX6_change_24 (t : Nat) (a1 : Int32) (a2 : Int32) (a3 : Int32) (Q : Int32 → (Nat → Nat → Int32) → Prop) (V : Nat → Nat → Int32) : Prop :=
  wX6_change_38 t a1 a2 a3 Q V (1 : Int32)
theorem rX6_change_24 {G : jG} {l : Launch} {d c n : Nat} (htr : l.stackTraces = false) (hdd : 2 ≤ d) {sh : List jH} {t : Nat} (hT : jReg shX6 sh t) {R : Nat → Nat → Option Nat} {a1 : Int32} {a2 : Int32} {a3 : Int32} {Q : Int32 → (Nat → Nat → Int32) → Prop} {V : Nat → Nat → Int32} (hw : wX6_change_24 t a1 a2 a3 Q V) : J G l MX6_change d c n 24 [(0, .ref t), (1, .int a1), (2, .int a2), (3, .int a3)] [.ref t] (mk sh V R) (jWr sh R Q) jNo := by
  unfold wX6_change_24 at hw
  refine J.iconst (v := (1 : Int32)) dX6_change_24 (by decide) ?_
  refine J.goto 38 dX6_change_25 (by decide) ?_
  exact (rX6_change_38 htr hdd hT hw)
def wX6_change (t : Nat) (V : Nat → Nat → Int32) (a1 : Int32) (a2 : Int32) (a3 : Int32) (Q : Int32 → (Nat → Nat → Int32) → Prop) : Prop :=
  wX6_isHost t V a1 (fun r3 => ((r3 = 0 → wX6_change_24 t a1 a2 a3 Q V) ∧ (¬ r3 = 0 → wX6_isHost t V a2 (fun r11 => ((r11 = 0 → wX6_change_24 t a1 a2 a3 Q V) ∧ (¬ r11 = 0 → wX6_isQuarter a3 (fun r18 => ((¬ r18 = 0 → ((¬ a1 = a2 → wX6_change_38 t a1 a2 a3 Q V (0 : Int32)) ∧ (a1 = a2 → wX6_change_38 t a1 a2 a3 Q V (2 : Int32)))) ∧ (r18 = 0 → wX6_change_24 t a1 a2 a3 Q V)))))))))
theorem mX6_change {G : jG} {l : Launch} (htr : l.stackTraces = false) {sh : List jH} {V : Nat → Nat → Int32} {R : Nat → Nat → Option Nat} {t : Nat} (hT : jReg shX6 sh t) {a1 : Int32} {a2 : Int32} {a3 : Int32} {Q : Int32 → (Nat → Nat → Int32) → Prop} (hw : wX6_change t V a1 a2 a3 Q) : JM G l MX6_change 2 0 0 [.ref t, .int a1, .int a2, .int a3] (mk sh V R) (jWr sh R Q) jNo := by
  refine JM.intro (by decide) rfl htr (Nat.le_of_ble_eq_true rfl) ?_
  show J G l MX6_change 2 0 0 0 [(0, .ref t), (1, .int a1), (2, .int a2), (3, .int a3)] [] (mk sh V R) _ _
  unfold wX6_change at hw
  refine J.aload_n 0 dX6_change_0 rfl ?_
  refine J.aload_n 0 dX6_change_1 rfl ?_
  refine J.iload_n 1 dX6_change_2 rfl ?_
  refine kX6_310 rfl htr hT dX6_change_3 (by omega) (Nat.le_of_ble_eq_true rfl) hw (fun r3 hw => ?_)
  refine J.if_eq 24 dX6_change_6 (by decide) ⟨fun c6 => ?_, fun c6 => ?_⟩
  · have hw := hw.1 c6
    exact (rX6_change_24 htr (Nat.le_refl _) hT hw)
  · have hw := hw.2 c6
    refine J.aload_n 0 dX6_change_9 rfl ?_
    refine J.iload_n 2 dX6_change_10 rfl ?_
    refine kX6_310 rfl htr hT dX6_change_11 (by omega) (Nat.le_of_ble_eq_true rfl) hw (fun r11 hw => ?_)
    refine J.if_eq 24 dX6_change_14 (by decide) ⟨fun c14 => ?_, fun c14 => ?_⟩
    · have hw := hw.1 c14
      exact (rX6_change_24 htr (Nat.le_refl _) hT hw)
    · have hw := hw.2 c14
      refine J.iload_n 3 dX6_change_17 rfl ?_
      refine kX6_331 rfl htr dX6_change_18 (by omega) (Nat.le_of_ble_eq_true rfl) hw (fun r18 hw => ?_)
      refine J.if_ne 28 dX6_change_21 (by decide) ⟨fun c21 => ?_, fun c21 => ?_⟩
      · have hw := hw.1 c21
        refine J.iload_n 1 dX6_change_28 rfl ?_
        refine J.iload_n 2 dX6_change_29 rfl ?_
        refine J.icmp_ne 37 dX6_change_30 (by decide) ⟨fun c30 => ?_, fun c30 => ?_⟩
        · have hw := hw.1 c30
          refine J.iconst (v := (0 : Int32)) dX6_change_37 (by decide) ?_
          exact (rX6_change_38 htr (Nat.le_refl _) hT hw)
        · have hw := hw.2 c30
          refine J.iconst (v := (2 : Int32)) dX6_change_33 (by decide) ?_
          refine J.goto 38 dX6_change_34 (by decide) ?_
          exact (rX6_change_38 htr (Nat.le_refl _) hT hw)
      · have hw := hw.2 c21
        exact (rX6_change_24 htr (Nat.le_refl _) hT hw)
-- VisitingHoursModel.lesser(II)I
abbrev MX6_lesser : jM := (yX6_lesser, cX6_lesser, 2, some .int, [])
def wX6_lesser (a1 : Int32) (a2 : Int32) (Q : Int32 → Prop) : Prop :=
  ((a2 ≤ a1 → Q a2) ∧ (¬ a2 ≤ a1 → Q a1))
theorem mX6_lesser {G : jG} {l : Launch} (htr : l.stackTraces = false) {sh : List jH} {V : Nat → Nat → Int32} {R : Nat → Nat → Option Nat} {a1 : Int32} {a2 : Int32} {Q : Int32 → Prop} (hw : wX6_lesser a1 a2 Q) : JM G l MX6_lesser 0 0 0 [.int a1, .int a2] (mk sh V R) (jRd (mk sh V R) Q) jNo := by
  refine JM.intro (by decide) rfl htr (Nat.le_of_ble_eq_true rfl) ?_
  show J G l MX6_lesser 0 0 0 0 [(0, .int a1), (1, .int a2)] [] (mk sh V R) _ _
  unfold wX6_lesser at hw
  refine J.iload_n 0 dX6_lesser_0 rfl ?_
  refine J.iload_n 1 dX6_lesser_1 rfl ?_
  refine J.icmp_ge 9 dX6_lesser_2 (by decide) ⟨fun c2 => ?_, fun c2 => ?_⟩
  · have hw := hw.1 c2
    refine J.iload_n 1 dX6_lesser_9 rfl ?_
    exact J.iret rfl dX6_lesser_10 ⟨rfl, _, rfl, hw⟩
  · have hw := hw.2 c2
    refine J.iload_n 0 dX6_lesser_5 rfl ?_
    refine J.goto 10 dX6_lesser_6 (by decide) ?_
    exact J.iret rfl dX6_lesser_10 ⟨rfl, _, rfl, hw⟩
-- VisitingHoursModel.put(III)V
abbrev MX6_put : jM := (yX6_put, cX6_put, 4, none, [])
def wX6_put (t : Nat) (V : Nat → Nat → Int32) (a1 : Int32) (a2 : Int32) (a3 : Int32) (Q : (Nat → Nat → Int32) → Prop) : Prop :=
  (vp_in (((11 : Int32) + ((4 : Int32) * a1)) + a2) 1019 ∧ Q (vset V (t + 1) (((11 : Int32) + ((4 : Int32) * a1)) + a2).toNatClampNeg a3))
theorem mX6_put {G : jG} {l : Launch} (htr : l.stackTraces = false) {sh : List jH} {V : Nat → Nat → Int32} {R : Nat → Nat → Option Nat} {t : Nat} (hT : jReg shX6 sh t) {a1 : Int32} {a2 : Int32} {a3 : Int32} {Q : (Nat → Nat → Int32) → Prop} (hw : wX6_put t V a1 a2 a3 Q) : JM G l MX6_put 0 0 0 [.ref t, .int a1, .int a2, .int a3] (mk sh V R) (jWv sh R Q) jNo := by
  refine JM.intro (by decide) rfl htr (Nat.le_of_ble_eq_true rfl) ?_
  show J G l MX6_put 0 0 0 0 [(0, .ref t), (1, .int a1), (2, .int a2), (3, .int a3)] [] (mk sh V R) _ _
  unfold wX6_put at hw
  refine J.aload_n 0 dX6_put_0 rfl ?_
  refine gX6_7 rfl hT dX6_put_1 ?_
  refine J.bipush (v := (11 : Int32)) dX6_put_4 (by decide) ?_
  refine J.iconst (v := (4 : Int32)) dX6_put_6 (by decide) ?_
  refine J.iload_n 1 dX6_put_7 rfl ?_
  refine J.imul dX6_put_8 ?_
  refine J.iadd dX6_put_9 ?_
  refine J.iload_n 2 dX6_put_10 rfl ?_
  refine J.iadd dX6_put_11 ?_
  refine J.iload_n 3 dX6_put_12 rfl ?_
  obtain ⟨h13, hw⟩ := hw
  refine JV.iast dX6_put_13 (hT.ge 1) (hT.at 1 rfl) h13 ?_
  exact J.vret rfl dX6_put_14 ⟨_, rfl, rfl, hw⟩
theorem kX6_124 {G : jG} {l : Launch} {M : jM} {d c n pc : Nat} {lv : List (Nat × Value)} {rest : List Value} {post : Option Value → List jC → Prop} {xp : String → List jC → Prop} (hM : M.1.cls = RX6) (htr : l.stackTraces = false) {sh : List jH} {V : Nat → Nat → Int32} {R : Nat → Nat → Option Nat} {a1 : Int32} {a2 : Int32} {Q : Int32 → Prop} (hd : decode M.2.1 pc = .ok (.invokestatic 124, 3)) (hdd : 0 + 1 ≤ d) (hw8 : (rest.map fun v => v.category).sum ≤ 8) (hw : wX6_lesser a1 a2 Q) (kk : ∀ r, Q r → J G l M d c n (pc + 3) lv (.int r :: rest) (mk sh V R) post xp) : J G l M d c n pc lv (.int a2 :: .int a1 :: rest) (mk sh V R) post xp :=
  J.callS (As := [.int a1, .int a2]) (hcw := by rw [hM]; exact lw_S q2352 q2353 q152 q2354) (mX6_lesser htr hw) hd rfl ⟨by decide, by decide, by show _ = some 2; decide +kernel⟩ hw8 ⟨hdd, by decide⟩ jcc0 (fun r9 g9 h9 => by obtain ⟨rfl, r, rfl, h⟩ := h9; exact kk r h) jNo.x
-- VisitingHoursModel.logs(IIIII)V
abbrev MX6_logs : jM := (yX6_logs, cX6_logs, 7, none, [])
def wX6_logs_5 (t : Nat) (a1 : Int32) (a2 : Int32) (a3 : Int32) (a4 : Int32) (a5 : Int32) (Q : (Nat → Nat → Int32) → Prop) : Nat → (Nat → Nat → Int32) → Int32 → Prop
  | 0, _, _ => False
  | f + 1, V, x6 =>
    ((x6 < (6 : Int32) → (∀ y57 : Int32, y57 = (V (t + 1) 6) → wX6_lesser (60 : Int32) (((vset (vset (vset (vset (vset (vset V (t + 1) 259 y57) (t + 1) 260 a1) (t + 1) 261 a2) (t + 1) 262 a3) (t + 1) 263 a4) (t + 1) 264 a5) (t + 1) 9) + (1 : Int32)) (fun r122 => Q (vset (vset (vset (vset (vset (vset (vset V (t + 1) 259 y57) (t + 1) 260 a1) (t + 1) 261 a2) (t + 1) 262 a3) (t + 1) 263 a4) (t + 1) 264 a5) (t + 1) 9 r122)))) ∧ (¬ x6 < (6 : Int32) → (vp_in (((259 : Int32) + x6) - (6 : Int32)) 1019 ∧ (∀ y36 : Int32, y36 = (V (t + 1) (((259 : Int32) + x6) - (6 : Int32)).toNatClampNeg) → (vp_in ((259 : Int32) + x6) 1019 ∧ (∀ y37 : Int32, y37 = x6 + (-1 : Int32) → wX6_logs_5 t a1 a2 a3 a4 a5 Q f (vset V (t + 1) ((259 : Int32) + x6).toNatClampNeg y36) y37))))))
theorem rX6_logs_5 {G : jG} {l : Launch} {d c n : Nat} (htr : l.stackTraces = false) (hdd : 1 ≤ d) {sh : List jH} {t : Nat} (hT : jReg shX6 sh t) {R : Nat → Nat → Option Nat} {a1 : Int32} {a2 : Int32} {a3 : Int32} {a4 : Int32} {a5 : Int32} {Q : (Nat → Nat → Int32) → Prop} : ∀ (f : Nat) (V : Nat → Nat → Int32) (x6 : Int32), wX6_logs_5 t a1 a2 a3 a4 a5 Q f V x6 → J G l MX6_logs d c n 5 [(0, .ref t), (1, .int a1), (2, .int a2), (3, .int a3), (4, .int a4), (5, .int a5), (6, .int x6)] [] (mk sh V R) (jWv sh R Q) jNo := by
  intro f
  induction f with
  | zero =>
    intro V x6 hw
    rw [wX6_logs_5] at hw
    exact hw.elim
  | succ f ih =>
    intro V x6 hw
    rw [wX6_logs_5] at hw
    refine J.iload 6 dX6_logs_5 rfl ?_
    refine J.bipush (v := (6 : Int32)) dX6_logs_7 (by decide) ?_
    refine J.icmp_lt 43 dX6_logs_9 (by decide) ⟨fun c9 => ?_, fun c9 => ?_⟩
    · have hw := hw.1 c9
      refine J.aload_n 0 dX6_logs_43 rfl ?_
      refine gX6_7 rfl hT dX6_logs_44 ?_
      refine J.sipush (v := (259 : Int32)) dX6_logs_47 (by decide) ?_
      refine J.aload_n 0 dX6_logs_50 rfl ?_
      refine gX6_7 rfl hT dX6_logs_51 ?_
      refine J.bipush (v := (6 : Int32)) dX6_logs_54 (by decide) ?_
      refine JV.ialdK 6 dX6_logs_56 (hT.ge 1) (hT.at 1 rfl) rfl (by decide) (by decide) ?_
      refine J.nm hw (fun y57 hw => ?_)
      refine JV.iastK 259 dX6_logs_57 (hT.ge 1) (hT.at 1 rfl) rfl (by decide) (by decide) ?_
      refine J.aload_n 0 dX6_logs_58 rfl ?_
      refine gX6_7 rfl hT dX6_logs_59 ?_
      refine J.sipush (v := (260 : Int32)) dX6_logs_62 (by decide) ?_
      refine J.iload_n 1 dX6_logs_65 rfl ?_
      refine JV.iastK 260 dX6_logs_66 (hT.ge 1) (hT.at 1 rfl) rfl (by decide) (by decide) ?_
      refine J.aload_n 0 dX6_logs_67 rfl ?_
      refine gX6_7 rfl hT dX6_logs_68 ?_
      refine J.sipush (v := (261 : Int32)) dX6_logs_71 (by decide) ?_
      refine J.iload_n 2 dX6_logs_74 rfl ?_
      refine JV.iastK 261 dX6_logs_75 (hT.ge 1) (hT.at 1 rfl) rfl (by decide) (by decide) ?_
      refine J.aload_n 0 dX6_logs_76 rfl ?_
      refine gX6_7 rfl hT dX6_logs_77 ?_
      refine J.sipush (v := (262 : Int32)) dX6_logs_80 (by decide) ?_
      refine J.iload_n 3 dX6_logs_83 rfl ?_
      refine JV.iastK 262 dX6_logs_84 (hT.ge 1) (hT.at 1 rfl) rfl (by decide) (by decide) ?_
      refine J.aload_n 0 dX6_logs_85 rfl ?_
      refine gX6_7 rfl hT dX6_logs_86 ?_
      refine J.sipush (v := (263 : Int32)) dX6_logs_89 (by decide) ?_
      refine J.iload 4 dX6_logs_92 rfl ?_
      refine JV.iastK 263 dX6_logs_94 (hT.ge 1) (hT.at 1 rfl) rfl (by decide) (by decide) ?_
      refine J.aload_n 0 dX6_logs_95 rfl ?_
      refine gX6_7 rfl hT dX6_logs_96 ?_
      refine J.sipush (v := (264 : Int32)) dX6_logs_99 (by decide) ?_
      refine J.iload 5 dX6_logs_102 rfl ?_
      refine JV.iastK 264 dX6_logs_104 (hT.ge 1) (hT.at 1 rfl) rfl (by decide) (by decide) ?_
      refine J.aload_n 0 dX6_logs_105 rfl ?_
      refine gX6_7 rfl hT dX6_logs_106 ?_
      refine J.bipush (v := (9 : Int32)) dX6_logs_109 (by decide) ?_
      refine J.bipush (v := (60 : Int32)) dX6_logs_111 (by decide) ?_
      refine J.aload_n 0 dX6_logs_113 rfl ?_
      refine gX6_7 rfl hT dX6_logs_114 ?_
      refine J.bipush (v := (9 : Int32)) dX6_logs_117 (by decide) ?_
      refine JV.ialdK 9 dX6_logs_119 (hT.ge 1) (hT.at 1 rfl) rfl (by decide) (by decide) ?_
      refine J.iconst (v := (1 : Int32)) dX6_logs_120 (by decide) ?_
      refine J.iadd dX6_logs_121 ?_
      refine kX6_124 rfl htr dX6_logs_122 (by omega) (Nat.le_of_ble_eq_true rfl) hw (fun r122 hw => ?_)
      refine JV.iastK 9 dX6_logs_125 (hT.ge 1) (hT.at 1 rfl) rfl (by decide) (by decide) ?_
      exact J.vret rfl dX6_logs_126 ⟨_, rfl, rfl, hw⟩
    · have hw := hw.2 c9
      refine J.aload_n 0 dX6_logs_12 rfl ?_
      refine gX6_7 rfl hT dX6_logs_13 ?_
      refine J.sipush (v := (259 : Int32)) dX6_logs_16 (by decide) ?_
      refine J.iload 6 dX6_logs_19 rfl ?_
      refine J.iadd dX6_logs_21 ?_
      refine J.aload_n 0 dX6_logs_22 rfl ?_
      refine gX6_7 rfl hT dX6_logs_23 ?_
      refine J.sipush (v := (259 : Int32)) dX6_logs_26 (by decide) ?_
      refine J.iload 6 dX6_logs_29 rfl ?_
      refine J.iadd dX6_logs_31 ?_
      refine J.bipush (v := (6 : Int32)) dX6_logs_32 (by decide) ?_
      refine J.isub dX6_logs_34 ?_
      obtain ⟨h35, hw⟩ := hw
      refine JV.iald dX6_logs_35 (hT.ge 1) (hT.at 1 rfl) h35 ?_
      refine J.nm hw (fun y36 hw => ?_)
      obtain ⟨h36, hw⟩ := hw
      refine JV.iast dX6_logs_36 (hT.ge 1) (hT.at 1 rfl) h36 ?_
      refine J.iincN 6 (K := (-1 : Int32)) (lv' := fun y37 => [(6, .int y37), (0, .ref t), (1, .int a1), (2, .int a2), (3, .int a3), (4, .int a4), (5, .int a5)]) dX6_logs_37 rfl (by decide) (by decide) (fun _ => rfl) hw (fun y37 hw => ?_)
      refine J.goto 5 dX6_logs_40 (by decide) ?_
      exact J.pick [1, 2, 3, 4, 5, 6, 0] rfl (ih _ _ hw)
def wX6_logs (t : Nat) (V : Nat → Nat → Int32) (a1 : Int32) (a2 : Int32) (a3 : Int32) (a4 : Int32) (a5 : Int32) (Q : (Nat → Nat → Int32) → Prop) : Prop :=
  (∃ f9, wX6_logs_5 t a1 a2 a3 a4 a5 Q f9 V (359 : Int32))
theorem mX6_logs {G : jG} {l : Launch} (htr : l.stackTraces = false) {sh : List jH} {V : Nat → Nat → Int32} {R : Nat → Nat → Option Nat} {t : Nat} (hT : jReg shX6 sh t) {a1 : Int32} {a2 : Int32} {a3 : Int32} {a4 : Int32} {a5 : Int32} {Q : (Nat → Nat → Int32) → Prop} (hw : wX6_logs t V a1 a2 a3 a4 a5 Q) : JM G l MX6_logs 1 0 0 [.ref t, .int a1, .int a2, .int a3, .int a4, .int a5] (mk sh V R) (jWv sh R Q) jNo := by
  refine JM.intro (by decide) rfl htr (Nat.le_of_ble_eq_true rfl) ?_
  show J G l MX6_logs 1 0 0 0 [(0, .ref t), (1, .int a1), (2, .int a2), (3, .int a3), (4, .int a4), (5, .int a5)] [] (mk sh V R) _ _
  unfold wX6_logs at hw
  refine J.sipush (v := (359 : Int32)) dX6_logs_0 (by decide) ?_
  refine J.istore (lv' := [(6, .int (359 : Int32)), (0, .ref t), (1, .int a1), (2, .int a2), (3, .int a3), (4, .int a4), (5, .int a5)]) dX6_logs_3 (by decide) rfl ?_
  obtain ⟨f9, hw⟩ := hw
  exact J.pick [1, 2, 3, 4, 5, 6, 0] rfl (rX6_logs_5 htr (Nat.le_refl _) hT f9 _ _ hw)
theorem gX6_294 {G : jG} {l : Launch} {M : jM} {d c n pc : Nat} {lv : List (Nat × Value)} {st : List Value} {sh : List jH} {V : Nat → Nat → Int32} {R : Nat → Nat → Option Nat} {post : Option Value → List jC → Prop} {xp : String → List jC → Prop} {t : Nat} (hM : M.1.cls = RX6) (hT : jReg shX6 sh t) (hd : decode M.2.1 pc = .ok (.getfield 294, 3)) (kk : J G l M d c n (pc + 3) lv (.int (V t 20) :: st) (mk sh V R) post xp) : J G l M d c n pc lv (.ref t :: st) (mk sh V R) post xp := JV.getf (C := RX6) (T0 := TX6) (N := 28) 20 hd hT.1 (hT.at 0 rfl) rfl in_X6 (by decide) (by rw [hM]; exact q2148) rfl rfl kk
theorem pX6_294 {G : jG} {l : Launch} {M : jM} {d c n pc : Nat} {lv : List (Nat × Value)} {st : List Value} {sh : List jH} {V : Nat → Nat → Int32} {R : Nat → Nat → Option Nat} {post : Option Value → List jC → Prop} {xp : String → List jC → Prop} {t : Nat} (hM : M.1.cls = RX6) (hT : jReg shX6 sh t) {x : Int32} (hd : decode M.2.1 pc = .ok (.putfield 294, 3)) (kk : J G l M d c n (pc + 3) lv st (mk sh (vset V t 20 x) R) post xp) : J G l M d c n pc lv (.int x :: .ref t :: st) (mk sh V R) post xp := JV.puti (C := RX6) (T0 := TX6) (N := 28) (o := 0) 20 hd hT.1 (hT.at 0 rfl) rfl in_X6 tyX6 tyX6_ok nmX6 (by decide) (by rw [hM]; exact q2148) rfl rfl (ji_put x) rfl kk
theorem kX6_140 {G : jG} {l : Launch} {M : jM} {d c n pc : Nat} {lv : List (Nat × Value)} {rest : List Value} {post : Option Value → List jC → Prop} {xp : String → List jC → Prop} (hM : M.1.cls = RX6) (htr : l.stackTraces = false) {sh : List jH} {V : Nat → Nat → Int32} {R : Nat → Nat → Option Nat} {t : Nat} (hT : jReg shX6 sh t) {a1 : Int32} {a2 : Int32} {a3 : Int32} {Q : (Nat → Nat → Int32) → Prop} (hd : decode M.2.1 pc = .ok (.invokevirtual 140, 3)) (hdd : 0 + 1 ≤ d) (hw8 : (rest.map fun v => v.category).sum ≤ 8) (hw : wX6_put t V a1 a2 a3 Q) (kk : ∀ V', Q V' → J G l M d c n (pc + 3) lv rest (mk sh V' R) post xp) : J G l M d c n pc lv (.int a3 :: .int a2 :: .int a1 :: .ref t :: rest) (mk sh V R) post xp :=
  J.callV (As := [.int a1, .int a2, .int a3]) (hcw := by rw [hM]; exact lw_V q2338 q2340 qs90 q152 q2341) (mX6_put htr hT hw) hd rfl ⟨5, _, _, mk_at (hT.at 0 rfl), rfl, rfl, fun _ => rfl⟩ ⟨rfl, by decide, by decide, by show _ = some 3; decide +kernel⟩ hw8 ⟨hdd, by decide⟩ jcc0 (fun r9 g9 h9 => by obtain ⟨V9, rfl, rfl, h⟩ := h9; exact kk V9 h) jNo.x
theorem kX6_290 {G : jG} {l : Launch} {M : jM} {d c n pc : Nat} {lv : List (Nat × Value)} {rest : List Value} {post : Option Value → List jC → Prop} {xp : String → List jC → Prop} (hM : M.1.cls = RX6) (htr : l.stackTraces = false) {sh : List jH} {V : Nat → Nat → Int32} {R : Nat → Nat → Option Nat} {t : Nat} (hT : jReg shX6 sh t) {a1 : Int32} {a2 : Int32} {a3 : Int32} {a4 : Int32} {a5 : Int32} {Q : (Nat → Nat → Int32) → Prop} (hd : decode M.2.1 pc = .ok (.invokevirtual 290, 3)) (hdd : 1 + 1 ≤ d) (hw8 : (rest.map fun v => v.category).sum ≤ 8) (hw : wX6_logs t V a1 a2 a3 a4 a5 Q) (kk : ∀ V', Q V' → J G l M d c n (pc + 3) lv rest (mk sh V' R) post xp) : J G l M d c n pc lv (.int a5 :: .int a4 :: .int a3 :: .int a2 :: .int a1 :: .ref t :: rest) (mk sh V R) post xp :=
  J.callV (As := [.int a1, .int a2, .int a3, .int a4, .int a5]) (hcw := by rw [hM]; exact lw_V q2546 q2548 qs121 q152 q2549) (mX6_logs htr hT hw) hd rfl ⟨5, _, _, mk_at (hT.at 0 rfl), rfl, rfl, fun _ => rfl⟩ ⟨rfl, by decide, by decide, by show _ = some 5; decide +kernel⟩ hw8 ⟨hdd, by decide⟩ jcc0 (fun r9 g9 h9 => by obtain ⟨V9, rfl, rfl, h⟩ := h9; exact kk V9 h) jNo.x
-- VisitingHoursModel.closes(IZ)V
abbrev MX6_closes : jM := (yX6_closes, cX6_closes, 4, none, [])
def wX6_closes_45 (t : Nat) (a1 : Int32) (a2 : Int32) (Q : (Nat → Nat → Int32) → Prop) : Nat → (Nat → Nat → Int32) → Int32 → Prop
  | 0, _, _ => False
  | f + 1, V, x3 =>
    (((8 : Int32) ≤ x3 → wX6_put t V a1 (3 : Int32) (0 : Int32) (fun V77 => wX6_logs t V77 a1 (-1 : Int32) (-1 : Int32) (1 : Int32) (0 : Int32) (fun V86 => (∀ y98 : Int32, y98 = ((V86 t 20) ||| ((1 : Int32) <<< (a1 &&& 31))) → Q (vset V86 t 20 y98))))) ∧ (¬ (8 : Int32) ≤ x3 → (vp_in (((195 : Int32) + ((8 : Int32) * a1)) + x3) 1019 ∧ (∀ y67 : Int32, y67 = x3 + (1 : Int32) → wX6_closes_45 t a1 a2 Q f (vset V (t + 1) (((195 : Int32) + ((8 : Int32) * a1)) + x3).toNatClampNeg (-1 : Int32)) y67))))
theorem rX6_closes_45 {G : jG} {l : Launch} {d c n : Nat} (htr : l.stackTraces = false) (hdd : 2 ≤ d) {sh : List jH} {t : Nat} (hT : jReg shX6 sh t) {R : Nat → Nat → Option Nat} {a1 : Int32} {a2 : Int32} {Q : (Nat → Nat → Int32) → Prop} : ∀ (f : Nat) (V : Nat → Nat → Int32) (x3 : Int32), wX6_closes_45 t a1 a2 Q f V x3 → J G l MX6_closes d c n 45 [(0, .ref t), (1, .int a1), (3, .int x3)] [] (mk sh V R) (jWv sh R Q) jNo := by
  intro f
  induction f with
  | zero =>
    intro V x3 hw
    rw [wX6_closes_45] at hw
    exact hw.elim
  | succ f ih =>
    intro V x3 hw
    rw [wX6_closes_45] at hw
    refine J.iload_n 2 dX6_closes_45 rfl ?_
    refine J.bipush (v := (8 : Int32)) dX6_closes_46 (by decide) ?_
    refine J.icmp_ge 73 dX6_closes_48 (by decide) ⟨fun c48 => ?_, fun c48 => ?_⟩
    · have hw := hw.1 c48
      refine J.aload_n 0 dX6_closes_73 rfl ?_
      refine J.iload_n 1 dX6_closes_74 rfl ?_
      refine J.iconst (v := (3 : Int32)) dX6_closes_75 (by decide) ?_
      refine J.iconst (v := (0 : Int32)) dX6_closes_76 (by decide) ?_
      refine kX6_140 rfl htr hT dX6_closes_77 (by omega) (Nat.le_of_ble_eq_true rfl) hw (fun V77 hw => ?_)
      refine J.aload_n 0 dX6_closes_80 rfl ?_
      refine J.iload_n 1 dX6_closes_81 rfl ?_
      refine J.iconst (v := (-1 : Int32)) dX6_closes_82 (by decide) ?_
      refine J.iconst (v := (-1 : Int32)) dX6_closes_83 (by decide) ?_
      refine J.iconst (v := (1 : Int32)) dX6_closes_84 (by decide) ?_
      refine J.iconst (v := (0 : Int32)) dX6_closes_85 (by decide) ?_
      refine kX6_290 rfl htr hT dX6_closes_86 (by omega) (Nat.le_of_ble_eq_true rfl) hw (fun V86 hw => ?_)
      refine J.aload_n 0 dX6_closes_89 rfl ?_
      refine J.dup dX6_closes_90 rfl ?_
      refine gX6_294 rfl hT dX6_closes_91 ?_
      refine J.iconst (v := (1 : Int32)) dX6_closes_94 (by decide) ?_
      refine J.iload_n 1 dX6_closes_95 rfl ?_
      refine J.ishl dX6_closes_96 ?_
      refine J.ior dX6_closes_97 ?_
      refine J.nm hw (fun y98 hw => ?_)
      refine pX6_294 rfl hT dX6_closes_98 ?_
      exact J.vret rfl dX6_closes_101 ⟨_, rfl, rfl, hw⟩
    · have hw := hw.2 c48
      refine J.aload_n 0 dX6_closes_51 rfl ?_
      refine gX6_7 rfl hT dX6_closes_52 ?_
      refine J.sipush (v := (195 : Int32)) dX6_closes_55 (by decide) ?_
      refine J.bipush (v := (8 : Int32)) dX6_closes_58 (by decide) ?_
      refine J.iload_n 1 dX6_closes_60 rfl ?_
      refine J.imul dX6_closes_61 ?_
      refine J.iadd dX6_closes_62 ?_
      refine J.iload_n 2 dX6_closes_63 rfl ?_
      refine J.iadd dX6_closes_64 ?_
      refine J.iconst (v := (-1 : Int32)) dX6_closes_65 (by decide) ?_
      obtain ⟨h66, hw⟩ := hw
      refine JV.iast dX6_closes_66 (hT.ge 1) (hT.at 1 rfl) h66 ?_
      refine J.iincN 2 (K := (1 : Int32)) (lv' := fun y67 => [(3, .int y67), (0, .ref t), (1, .int a1)]) dX6_closes_67 rfl (by decide) (by decide) (fun _ => rfl) hw (fun y67 hw => ?_)
      refine J.goto 45 dX6_closes_70 (by decide) ?_
      exact J.pick [1, 2, 0] rfl (ih _ _ hw)
def wX6_closes_24 (t : Nat) (a1 : Int32) (a2 : Int32) (Q : (Nat → Nat → Int32) → Prop) (V : Nat → Nat → Int32) (s1 : Int32) (s2 : Int32) (s3 : Int32) : Prop :=
  wX6_put t V s1 s2 s3 (fun V24 => wX6_of t V24 a1 (3 : Int32) (fun r30 => wX6_of t V24 a1 (0 : Int32) (fun r36 => ((r36 < r30 → (∃ f9, wX6_closes_45 t a1 a2 Q f9 V24 (0 : Int32))) ∧ (¬ r36 < r30 → Q V24)))))
theorem rX6_closes_24 {G : jG} {l : Launch} {d c n : Nat} (htr : l.stackTraces = false) (hdd : 2 ≤ d) {sh : List jH} {t : Nat} (hT : jReg shX6 sh t) {R : Nat → Nat → Option Nat} {a1 : Int32} {a2 : Int32} {Q : (Nat → Nat → Int32) → Prop} {V : Nat → Nat → Int32} {s1 : Int32} {s2 : Int32} {s3 : Int32} (hw : wX6_closes_24 t a1 a2 Q V s1 s2 s3) : J G l MX6_closes d c n 24 [(0, .ref t), (1, .int a1)] [.int s3, .int s2, .int s1, .ref t] (mk sh V R) (jWv sh R Q) jNo := by
  unfold wX6_closes_24 at hw
  refine kX6_140 rfl htr hT dX6_closes_24 (by omega) (Nat.le_of_ble_eq_true rfl) hw (fun V24 hw => ?_)
  refine J.aload_n 0 dX6_closes_27 rfl ?_
  refine J.iload_n 1 dX6_closes_28 rfl ?_
  refine J.iconst (v := (3 : Int32)) dX6_closes_29 (by decide) ?_
  refine kX6_68 rfl htr hT dX6_closes_30 (by omega) (Nat.le_of_ble_eq_true rfl) hw (fun r30 hw => ?_)
  refine J.aload_n 0 dX6_closes_33 rfl ?_
  refine J.iload_n 1 dX6_closes_34 rfl ?_
  refine J.iconst (v := (0 : Int32)) dX6_closes_35 (by decide) ?_
  refine kX6_68 rfl htr hT dX6_closes_36 (by omega) (Nat.le_of_ble_eq_true rfl) hw (fun r36 hw => ?_)
  refine J.icmp_gt 43 dX6_closes_39 (by decide) ⟨fun c39 => ?_, fun c39 => ?_⟩
  · have hw := hw.1 c39
    refine J.iconst (v := (0 : Int32)) dX6_closes_43 (by decide) ?_
    refine J.istore_n (lv' := [(3, .int (0 : Int32)), (0, .ref t), (1, .int a1)]) dX6_closes_44 (by decide) rfl ?_
    obtain ⟨f9, hw⟩ := hw
    exact J.pick [1, 2, 0] rfl (rX6_closes_45 htr hdd hT f9 _ _ hw)
  · have hw := hw.2 c39
    exact J.vret rfl dX6_closes_42 ⟨_, rfl, rfl, hw⟩
def wX6_closes (t : Nat) (V : Nat → Nat → Int32) (a1 : Int32) (a2 : Int32) (Q : (Nat → Nat → Int32) → Prop) : Prop :=
  ((a2 = 0 → wX6_of t V a1 (3 : Int32) (fun r16 => wX6_lesser (99 : Int32) (r16 + (1 : Int32)) (fun r21 => wX6_closes_24 t a1 a2 Q V a1 (3 : Int32) r21))) ∧ (¬ a2 = 0 → wX6_closes_24 t a1 a2 Q V a1 (3 : Int32) (0 : Int32)))
theorem mX6_closes {G : jG} {l : Launch} (htr : l.stackTraces = false) {sh : List jH} {V : Nat → Nat → Int32} {R : Nat → Nat → Option Nat} {t : Nat} (hT : jReg shX6 sh t) {a1 : Int32} {a2 : Int32} {Q : (Nat → Nat → Int32) → Prop} (hw : wX6_closes t V a1 a2 Q) : JM G l MX6_closes 2 0 0 [.ref t, .int a1, .int a2] (mk sh V R) (jWv sh R Q) jNo := by
  refine JM.intro (by decide) rfl htr (Nat.le_of_ble_eq_true rfl) ?_
  show J G l MX6_closes 2 0 0 0 [(0, .ref t), (1, .int a1), (2, .int a2)] [] (mk sh V R) _ _
  unfold wX6_closes at hw
  refine J.aload_n 0 dX6_closes_0 rfl ?_
  refine J.iload_n 1 dX6_closes_1 rfl ?_
  refine J.iconst (v := (3 : Int32)) dX6_closes_2 (by decide) ?_
  refine J.iload_n 2 dX6_closes_3 rfl ?_
  refine J.if_eq 11 dX6_closes_4 (by decide) ⟨fun c4 => ?_, fun c4 => ?_⟩
  · have hw := hw.1 c4
    refine J.bipush (v := (99 : Int32)) dX6_closes_11 (by decide) ?_
    refine J.aload_n 0 dX6_closes_13 rfl ?_
    refine J.iload_n 1 dX6_closes_14 rfl ?_
    refine J.iconst (v := (3 : Int32)) dX6_closes_15 (by decide) ?_
    refine kX6_68 rfl htr hT dX6_closes_16 (by omega) (Nat.le_of_ble_eq_true rfl) hw (fun r16 hw => ?_)
    refine J.iconst (v := (1 : Int32)) dX6_closes_19 (by decide) ?_
    refine J.iadd dX6_closes_20 ?_
    refine kX6_124 rfl htr dX6_closes_21 (by omega) (Nat.le_of_ble_eq_true rfl) hw (fun r21 hw => ?_)
    exact J.pick [0, 1] rfl (rX6_closes_24 htr (Nat.le_refl _) hT hw)
  · have hw := hw.2 c4
    refine J.iconst (v := (0 : Int32)) dX6_closes_7 (by decide) ?_
    refine J.goto 24 dX6_closes_8 (by decide) ?_
    exact J.pick [0, 1] rfl (rX6_closes_24 htr (Nat.le_refl _) hT hw)
-- VisitingHoursModel.passes(I)Z
abbrev MX6_passes : jM := (yX6_passes, cX6_passes, 2, some .boolean, [])
def wX6_passes (t : Nat) (V : Nat → Nat → Int32) (a1 : Int32) (Q : Int32 → Prop) : Prop :=
  ((¬ (a1 &&& (V (t + 1) 7)) = (V (t + 1) 7) → Q (0 : Int32)) ∧ ((a1 &&& (V (t + 1) 7)) = (V (t + 1) 7) → ((¬ (a1 &&& (V (t + 1) 8)) = 0 → Q (0 : Int32)) ∧ ((a1 &&& (V (t + 1) 8)) = 0 → Q (1 : Int32)))))
theorem mX6_passes {G : jG} {l : Launch} (htr : l.stackTraces = false) {sh : List jH} {V : Nat → Nat → Int32} {R : Nat → Nat → Option Nat} {t : Nat} (hT : jReg shX6 sh t) {a1 : Int32} {Q : Int32 → Prop} (hw : wX6_passes t V a1 Q) : JM G l MX6_passes 0 0 0 [.ref t, .int a1] (mk sh V R) (jRd (mk sh V R) Q) jNo := by
  refine JM.intro (by decide) rfl htr (Nat.le_of_ble_eq_true rfl) ?_
  show J G l MX6_passes 0 0 0 0 [(0, .ref t), (1, .int a1)] [] (mk sh V R) _ _
  unfold wX6_passes at hw
  refine J.iload_n 1 dX6_passes_0 rfl ?_
  refine J.aload_n 0 dX6_passes_1 rfl ?_
  refine gX6_7 rfl hT dX6_passes_2 ?_
  refine J.bipush (v := (7 : Int32)) dX6_passes_5 (by decide) ?_
  refine JV.ialdK 7 dX6_passes_7 (hT.ge 1) (hT.at 1 rfl) rfl (by decide) (by decide) ?_
  refine J.iand dX6_passes_8 ?_
  refine J.aload_n 0 dX6_passes_9 rfl ?_
  refine gX6_7 rfl hT dX6_passes_10 ?_
  refine J.bipush (v := (7 : Int32)) dX6_passes_13 (by decide) ?_
  refine JV.ialdK 7 dX6_passes_15 (hT.ge 1) (hT.at 1 rfl) rfl (by decide) (by decide) ?_
  refine J.icmp_ne 35 dX6_passes_16 (by decide) ⟨fun c16 => ?_, fun c16 => ?_⟩
  · have hw := hw.1 c16
    refine J.iconst (v := (0 : Int32)) dX6_passes_35 (by decide) ?_
    exact J.zret rfl rfl dX6_passes_36 ⟨rfl, _, rfl, hw⟩
  · have hw := hw.2 c16
    refine J.iload_n 1 dX6_passes_19 rfl ?_
    refine J.aload_n 0 dX6_passes_20 rfl ?_
    refine gX6_7 rfl hT dX6_passes_21 ?_
    refine J.bipush (v := (8 : Int32)) dX6_passes_24 (by decide) ?_
    refine JV.ialdK 8 dX6_passes_26 (hT.ge 1) (hT.at 1 rfl) rfl (by decide) (by decide) ?_
    refine J.iand dX6_passes_27 ?_
    refine J.if_ne 35 dX6_passes_28 (by decide) ⟨fun c28 => ?_, fun c28 => ?_⟩
    · have hw := hw.1 c28
      refine J.iconst (v := (0 : Int32)) dX6_passes_35 (by decide) ?_
      exact J.zret rfl rfl dX6_passes_36 ⟨rfl, _, rfl, hw⟩
    · have hw := hw.2 c28
      refine J.iconst (v := (1 : Int32)) dX6_passes_31 (by decide) ?_
      refine J.goto 36 dX6_passes_32 (by decide) ?_
      exact J.zret rfl rfl dX6_passes_36 ⟨rfl, _, rfl, hw⟩
theorem kX6_268 {G : jG} {l : Launch} {M : jM} {d c n pc : Nat} {lv : List (Nat × Value)} {rest : List Value} {post : Option Value → List jC → Prop} {xp : String → List jC → Prop} (hM : M.1.cls = RX6) (htr : l.stackTraces = false) {sh : List jH} {V : Nat → Nat → Int32} {R : Nat → Nat → Option Nat} {t : Nat} (hT : jReg shX6 sh t) {a1 : Int32} {Q : Int32 → Prop} (hd : decode M.2.1 pc = .ok (.invokevirtual 268, 3)) (hdd : 0 + 1 ≤ d) (hw8 : (rest.map fun v => v.category).sum ≤ 8) (hw : wX6_passes t V a1 Q) (kk : ∀ r, Q r → J G l M d c n (pc + 3) lv (.int r :: rest) (mk sh V R) post xp) : J G l M d c n pc lv (.int a1 :: .ref t :: rest) (mk sh V R) post xp :=
  J.callV (As := [.int a1]) (hcw := by rw [hM]; exact lw_V q2435 q2437 qs107 q152 q2438) (mX6_passes htr hT hw) hd rfl ⟨5, _, _, mk_at (hT.at 0 rfl), rfl, rfl, fun _ => rfl⟩ ⟨rfl, by decide, by decide, by show _ = some 1; decide +kernel⟩ hw8 ⟨hdd, by decide⟩ jcc0 (fun r9 g9 h9 => by obtain ⟨rfl, r, rfl, h⟩ := h9; exact kk r h) jNo.x
-- VisitingHoursModel.comerHas(IIII)I
abbrev MX6_comerHas : jM := (yX6_comerHas, cX6_comerHas, 5, some .int, [])
def wX6_comerHas (t : Nat) (V : Nat → Nat → Int32) (a1 : Int32) (a2 : Int32) (a3 : Int32) (a4 : Int32) (Q : Int32 → Prop) : Prop :=
  ((¬ a4 = 0 → ((¬ a3 = 0 → wX6_lovedOf t V a1 a2 (fun r41 => Q (r41 + (1 : Int32)))) ∧ (a3 = 0 → Q (-3 : Int32)))) ∧ (a4 = 0 → wX6_ofGuest t V a2 (2 : Int32) (fun r9 => wX6_passes t V r9 (fun r12 => ((r12 = 0 → Q (0 : Int32)) ∧ (¬ r12 = 0 → wX6_lovedOf t V a1 a2 (fun r21 => Q r21)))))))
theorem mX6_comerHas {G : jG} {l : Launch} (htr : l.stackTraces = false) {sh : List jH} {V : Nat → Nat → Int32} {R : Nat → Nat → Option Nat} {t : Nat} (hT : jReg shX6 sh t) {a1 : Int32} {a2 : Int32} {a3 : Int32} {a4 : Int32} {Q : Int32 → Prop} (hw : wX6_comerHas t V a1 a2 a3 a4 Q) : JM G l MX6_comerHas 1 0 0 [.ref t, .int a1, .int a2, .int a3, .int a4] (mk sh V R) (jRd (mk sh V R) Q) jNo := by
  refine JM.intro (by decide) rfl htr (Nat.le_of_ble_eq_true rfl) ?_
  show J G l MX6_comerHas 1 0 0 0 [(0, .ref t), (1, .int a1), (2, .int a2), (3, .int a3), (4, .int a4)] [] (mk sh V R) _ _
  unfold wX6_comerHas at hw
  refine J.iload 4 dX6_comerHas_0 rfl ?_
  refine J.if_ne 29 dX6_comerHas_2 (by decide) ⟨fun c2 => ?_, fun c2 => ?_⟩
  · have hw := hw.1 c2
    refine J.iload_n 3 dX6_comerHas_29 rfl ?_
    refine J.if_ne 38 dX6_comerHas_30 (by decide) ⟨fun c30 => ?_, fun c30 => ?_⟩
    · have hw := hw.1 c30
      refine J.aload_n 0 dX6_comerHas_38 rfl ?_
      refine J.iload_n 1 dX6_comerHas_39 rfl ?_
      refine J.iload_n 2 dX6_comerHas_40 rfl ?_
      refine kX6_65 rfl htr hT dX6_comerHas_41 (by omega) (Nat.le_of_ble_eq_true rfl) hw (fun r41 hw => ?_)
      refine J.iconst (v := (1 : Int32)) dX6_comerHas_44 (by decide) ?_
      refine J.iadd dX6_comerHas_45 ?_
      exact J.iret rfl dX6_comerHas_46 ⟨rfl, _, rfl, hw⟩
    · have hw := hw.2 c30
      refine J.bipush (v := (-3 : Int32)) dX6_comerHas_33 (by decide) ?_
      refine J.goto 46 dX6_comerHas_35 (by decide) ?_
      exact J.iret rfl dX6_comerHas_46 ⟨rfl, _, rfl, hw⟩
  · have hw := hw.2 c2
    refine J.aload_n 0 dX6_comerHas_5 rfl ?_
    refine J.aload_n 0 dX6_comerHas_6 rfl ?_
    refine J.iload_n 2 dX6_comerHas_7 rfl ?_
    refine J.iconst (v := (2 : Int32)) dX6_comerHas_8 (by decide) ?_
    refine kX6_71 rfl htr hT dX6_comerHas_9 (by omega) (Nat.le_of_ble_eq_true rfl) hw (fun r9 hw => ?_)
    refine kX6_268 rfl htr hT dX6_comerHas_12 (by omega) (Nat.le_of_ble_eq_true rfl) hw (fun r12 hw => ?_)
    refine J.if_eq 27 dX6_comerHas_15 (by decide) ⟨fun c15 => ?_, fun c15 => ?_⟩
    · have hw := hw.1 c15
      refine J.iconst (v := (0 : Int32)) dX6_comerHas_27 (by decide) ?_
      exact J.iret rfl dX6_comerHas_28 ⟨rfl, _, rfl, hw⟩
    · have hw := hw.2 c15
      refine J.aload_n 0 dX6_comerHas_18 rfl ?_
      refine J.iload_n 1 dX6_comerHas_19 rfl ?_
      refine J.iload_n 2 dX6_comerHas_20 rfl ?_
      refine kX6_65 rfl htr hT dX6_comerHas_21 (by omega) (Nat.le_of_ble_eq_true rfl) hw (fun r21 hw => ?_)
      refine J.goto 28 dX6_comerHas_24 (by decide) ?_
      exact J.iret rfl dX6_comerHas_28 ⟨rfl, _, rfl, hw⟩
theorem gX6_16 {G : jG} {l : Launch} {M : jM} {d c n pc : Nat} {lv : List (Nat × Value)} {st : List Value} {sh : List jH} {V : Nat → Nat → Int32} {R : Nat → Nat → Option Nat} {post : Option Value → List jC → Prop} {xp : String → List jC → Prop} {t : Nat} (hM : M.1.cls = RX6) (hT : jReg shX6 sh t) (hd : decode M.2.1 pc = .ok (.getfield 16, 3)) (kk : J G l M d c n (pc + 3) lv (.ref (t + 3) :: st) (mk sh V R) post xp) : J G l M d c n pc lv (.ref t :: st) (mk sh V R) post xp := JV.getf (C := RX6) (T0 := TX6) (N := 28) 4 hd hT.1 (hT.at 0 rfl) rfl in_X6 (by decide) (by rw [hM]; exact q2132) rfl rfl kk
-- VisitingHoursModel.comesBack()V
abbrev MX6_comesBack : jM := (yX6_comesBack, cX6_comesBack, 2, none, [])
def wX6_comesBack_2 (t : Nat) (Q : (Nat → Nat → Int32) → Prop) : Nat → (Nat → Nat → Int32) → Int32 → Prop
  | 0, _, _ => False
  | f + 1, V, x1 =>
    (((619 : Int32) ≤ x1 → Q V) ∧ (¬ (619 : Int32) ≤ x1 → (vp_in x1 619 ∧ (∀ y20 : Int32, y20 = (V (t + 3) x1.toNatClampNeg) → (vp_in x1 1019 ∧ (∀ y21 : Int32, y21 = x1 + (1 : Int32) → wX6_comesBack_2 t Q f (vset V (t + 1) x1.toNatClampNeg y20) y21))))))
theorem rX6_comesBack_2 {G : jG} {l : Launch} {d c n : Nat} (htr : l.stackTraces = false) (hdd : 0 ≤ d) {sh : List jH} {t : Nat} (hT : jReg shX6 sh t) {R : Nat → Nat → Option Nat} {Q : (Nat → Nat → Int32) → Prop} : ∀ (f : Nat) (V : Nat → Nat → Int32) (x1 : Int32), wX6_comesBack_2 t Q f V x1 → J G l MX6_comesBack d c n 2 [(0, .ref t), (1, .int x1)] [] (mk sh V R) (jWv sh R Q) jNo := by
  intro f
  induction f with
  | zero =>
    intro V x1 hw
    rw [wX6_comesBack_2] at hw
    exact hw.elim
  | succ f ih =>
    intro V x1 hw
    rw [wX6_comesBack_2] at hw
    refine J.iload_n 1 dX6_comesBack_2 rfl ?_
    refine J.sipush (v := (619 : Int32)) dX6_comesBack_3 (by decide) ?_
    refine J.icmp_ge 27 dX6_comesBack_6 (by decide) ⟨fun c6 => ?_, fun c6 => ?_⟩
    · have hw := hw.1 c6
      exact J.vret rfl dX6_comesBack_27 ⟨_, rfl, rfl, hw⟩
    · have hw := hw.2 c6
      refine J.aload_n 0 dX6_comesBack_9 rfl ?_
      refine gX6_7 rfl hT dX6_comesBack_10 ?_
      refine J.iload_n 1 dX6_comesBack_13 rfl ?_
      refine J.aload_n 0 dX6_comesBack_14 rfl ?_
      refine gX6_16 rfl hT dX6_comesBack_15 ?_
      refine J.iload_n 1 dX6_comesBack_18 rfl ?_
      obtain ⟨h19, hw⟩ := hw
      refine JV.iald dX6_comesBack_19 (hT.ge 3) (hT.at 3 rfl) h19 ?_
      refine J.nm hw (fun y20 hw => ?_)
      obtain ⟨h20, hw⟩ := hw
      refine JV.iast dX6_comesBack_20 (hT.ge 1) (hT.at 1 rfl) h20 ?_
      refine J.iincN 1 (K := (1 : Int32)) (lv' := fun y21 => [(1, .int y21), (0, .ref t)]) dX6_comesBack_21 rfl (by decide) (by decide) (fun _ => rfl) hw (fun y21 hw => ?_)
      refine J.goto 2 dX6_comesBack_24 (by decide) ?_
      exact J.pick [1, 0] rfl (ih _ _ hw)
def wX6_comesBack (t : Nat) (V : Nat → Nat → Int32) (Q : (Nat → Nat → Int32) → Prop) : Prop :=
  (∃ f9, wX6_comesBack_2 t Q f9 V (0 : Int32))
theorem mX6_comesBack {G : jG} {l : Launch} (htr : l.stackTraces = false) {sh : List jH} {V : Nat → Nat → Int32} {R : Nat → Nat → Option Nat} {t : Nat} (hT : jReg shX6 sh t) {Q : (Nat → Nat → Int32) → Prop} (hw : wX6_comesBack t V Q) : JM G l MX6_comesBack 0 0 0 [.ref t] (mk sh V R) (jWv sh R Q) jNo := by
  refine JM.intro (by decide) rfl htr (Nat.le_of_ble_eq_true rfl) ?_
  show J G l MX6_comesBack 0 0 0 0 [(0, .ref t)] [] (mk sh V R) _ _
  unfold wX6_comesBack at hw
  refine J.iconst (v := (0 : Int32)) dX6_comesBack_0 (by decide) ?_
  refine J.istore_n (lv' := [(1, .int (0 : Int32)), (0, .ref t)]) dX6_comesBack_1 (by decide) rfl ?_
  obtain ⟨f9, hw⟩ := hw
  exact J.pick [1, 0] rfl (rX6_comesBack_2 htr (Nat.le_refl _) hT f9 _ _ hw)
-- VisitingHoursModel.gladness()I
abbrev MX6_gladness : jM := (yX6_gladness, cX6_gladness, 3, some .int, [])
def wX6_gladness_4 (t : Nat) (V : Nat → Nat → Int32) (Q : Int32 → Prop) : Nat → Int32 → Int32 → Prop
  | 0, _, _ => False
  | f + 1, x1, x2 =>
    (((V (t + 1) 3) ≤ x2 → Q x1) ∧ (¬ (V (t + 1) 3) ≤ x2 → wX6_of t V x2 (2 : Int32) (fun r18 => (∀ y22 : Int32, y22 = (x1 + r18) → (∀ y23 : Int32, y23 = x2 + (1 : Int32) → wX6_gladness_4 t V Q f y22 y23)))))
theorem rX6_gladness_4 {G : jG} {l : Launch} {d c n : Nat} (htr : l.stackTraces = false) (hdd : 1 ≤ d) {sh : List jH} {t : Nat} (hT : jReg shX6 sh t) {R : Nat → Nat → Option Nat} {V : Nat → Nat → Int32} {Q : Int32 → Prop} : ∀ (f : Nat) (x1 : Int32) (x2 : Int32), wX6_gladness_4 t V Q f x1 x2 → J G l MX6_gladness d c n 4 [(0, .ref t), (1, .int x1), (2, .int x2)] [] (mk sh V R) (jRd (mk sh V R) Q) jNo := by
  intro f
  induction f with
  | zero =>
    intro x1 x2 hw
    rw [wX6_gladness_4] at hw
    exact hw.elim
  | succ f ih =>
    intro x1 x2 hw
    rw [wX6_gladness_4] at hw
    refine J.iload_n 2 dX6_gladness_4 rfl ?_
    refine J.aload_n 0 dX6_gladness_5 rfl ?_
    refine gX6_7 rfl hT dX6_gladness_6 ?_
    refine J.iconst (v := (3 : Int32)) dX6_gladness_9 (by decide) ?_
    refine JV.ialdK 3 dX6_gladness_10 (hT.ge 1) (hT.at 1 rfl) rfl (by decide) (by decide) ?_
    refine J.icmp_ge 29 dX6_gladness_11 (by decide) ⟨fun c11 => ?_, fun c11 => ?_⟩
    · have hw := hw.1 c11
      refine J.iload_n 1 dX6_gladness_29 rfl ?_
      exact J.iret rfl dX6_gladness_30 ⟨rfl, _, rfl, hw⟩
    · have hw := hw.2 c11
      refine J.iload_n 1 dX6_gladness_14 rfl ?_
      refine J.aload_n 0 dX6_gladness_15 rfl ?_
      refine J.iload_n 2 dX6_gladness_16 rfl ?_
      refine J.iconst (v := (2 : Int32)) dX6_gladness_17 (by decide) ?_
      refine kX6_68 rfl htr hT dX6_gladness_18 (by omega) (Nat.le_of_ble_eq_true rfl) hw (fun r18 hw => ?_)
      refine J.iadd dX6_gladness_21 ?_
      refine J.nm hw (fun y22 hw => ?_)
      refine J.istore_n (lv' := [(1, .int y22), (0, .ref t), (2, .int x2)]) dX6_gladness_22 (by decide) rfl ?_
      refine J.iincN 2 (K := (1 : Int32)) (lv' := fun y23 => [(2, .int y23), (1, .int y22), (0, .ref t)]) dX6_gladness_23 rfl (by decide) (by decide) (fun _ => rfl) hw (fun y23 hw => ?_)
      refine J.goto 4 dX6_gladness_26 (by decide) ?_
      exact J.pick [2, 1, 0] rfl (ih _ _ hw)
def wX6_gladness (t : Nat) (V : Nat → Nat → Int32) (Q : Int32 → Prop) : Prop :=
  (∃ f9, wX6_gladness_4 t V Q f9 (0 : Int32) (0 : Int32))
theorem mX6_gladness {G : jG} {l : Launch} (htr : l.stackTraces = false) {sh : List jH} {V : Nat → Nat → Int32} {R : Nat → Nat → Option Nat} {t : Nat} (hT : jReg shX6 sh t) {Q : Int32 → Prop} (hw : wX6_gladness t V Q) : JM G l MX6_gladness 1 0 0 [.ref t] (mk sh V R) (jRd (mk sh V R) Q) jNo := by
  refine JM.intro (by decide) rfl htr (Nat.le_of_ble_eq_true rfl) ?_
  show J G l MX6_gladness 1 0 0 0 [(0, .ref t)] [] (mk sh V R) _ _
  unfold wX6_gladness at hw
  refine J.iconst (v := (0 : Int32)) dX6_gladness_0 (by decide) ?_
  refine J.istore_n (lv' := [(1, .int (0 : Int32)), (0, .ref t)]) dX6_gladness_1 (by decide) rfl ?_
  refine J.iconst (v := (0 : Int32)) dX6_gladness_2 (by decide) ?_
  refine J.istore_n (lv' := [(2, .int (0 : Int32)), (1, .int (0 : Int32)), (0, .ref t)]) dX6_gladness_3 (by decide) rfl ?_
  obtain ⟨f9, hw⟩ := hw
  exact J.pick [2, 1, 0] rfl (rX6_gladness_4 htr (Nat.le_refl _) hT f9 _ _ hw)
theorem kX6_319 {G : jG} {l : Launch} {M : jM} {d c n pc : Nat} {lv : List (Nat × Value)} {rest : List Value} {post : Option Value → List jC → Prop} {xp : String → List jC → Prop} (hM : M.1.cls = RX6) (htr : l.stackTraces = false) {sh : List jH} {V : Nat → Nat → Int32} {R : Nat → Nat → Option Nat} {t : Nat} (hT : jReg shX6 sh t) {Q : Int32 → Prop} (hd : decode M.2.1 pc = .ok (.invokevirtual 319, 3)) (hdd : 1 + 1 ≤ d) (hw8 : (rest.map fun v => v.category).sum ≤ 8) (hw : wX6_gladness t V Q) (kk : ∀ r, Q r → J G l M d c n (pc + 3) lv (.int r :: rest) (mk sh V R) post xp) : J G l M d c n pc lv (.ref t :: rest) (mk sh V R) post xp :=
  J.callV (As := []) (hcw := by rw [hM]; exact lw_V q2407 q2409 qs101 q152 q2410) (mX6_gladness htr hT hw) hd rfl ⟨5, _, _, mk_at (hT.at 0 rfl), rfl, rfl, fun _ => rfl⟩ ⟨rfl, by decide, by decide, by show _ = some 0; decide +kernel⟩ hw8 ⟨hdd, by decide⟩ jcc0 (fun r9 g9 h9 => by obtain ⟨rfl, r, rfl, h⟩ := h9; exact kk r h) jNo.x
theorem kX6_433 {G : jG} {l : Launch} {M : jM} {d c n pc : Nat} {lv : List (Nat × Value)} {rest : List Value} {post : Option Value → List jC → Prop} {xp : String → List jC → Prop} (hM : M.1.cls = RX6) (htr : l.stackTraces = false) {sh : List jH} {V : Nat → Nat → Int32} {R : Nat → Nat → Option Nat} {t : Nat} (hT : jReg shX6 sh t) {Q : Int32 → Prop} (hd : decode M.2.1 pc = .ok (.invokevirtual 433, 3)) (hdd : 1 + 1 ≤ d) (hw8 : (rest.map fun v => v.category).sum ≤ 8) (hw : wX6_bookings t V Q) (kk : ∀ r, Q r → J G l M d c n (pc + 3) lv (.int r :: rest) (mk sh V R) post xp) : J G l M d c n pc lv (.ref t :: rest) (mk sh V R) post xp :=
  J.callV (As := []) (hcw := by rw [hM]; exact lw_V q2783 q2785 qs142 q152 q2786) (mX6_bookings htr hT hw) hd rfl ⟨5, _, _, mk_at (hT.at 0 rfl), rfl, rfl, fun _ => rfl⟩ ⟨rfl, by decide, by decide, by show _ = some 0; decide +kernel⟩ hw8 ⟨hdd, by decide⟩ jcc0 (fun r9 g9 h9 => by obtain ⟨rfl, r, rfl, h⟩ := h9; exact kk r h) jNo.x
-- VisitingHoursModel.count(I)I
abbrev MX6_count : jM := (yX6_count, cX6_count, 2, some .int, [])
def wX6_count (t : Nat) (V : Nat → Nat → Int32) (a1 : Int32) (Q : Int32 → (Nat → Nat → Int32) → Prop) : Prop :=
  ((¬ a1 = 0 → ((¬ a1 = (1 : Int32) → ((¬ a1 = (2 : Int32) → ((¬ a1 = (3 : Int32) → ((¬ a1 = (4 : Int32) → ((¬ a1 = (5 : Int32) → wX6_isIn a1 (6 : Int32) (7 : Int32) (fun r82 => ((r82 = 0 → ((¬ a1 = (8 : Int32) → ((¬ a1 = (9 : Int32) → ((¬ a1 = (10 : Int32) → ((¬ a1 = (11 : Int32) → Q (-1 : Int32) (vset V t 0 (0 : Int32))) ∧ (a1 = (11 : Int32) → Q ((vset V t 0 (0 : Int32)) t 6) (vset V t 0 (0 : Int32))))) ∧ (a1 = (10 : Int32) → Q ((vset V t 0 (0 : Int32)) (t + 1) 9) (vset V t 0 (0 : Int32))))) ∧ (a1 = (9 : Int32) → wX6_gladness t (vset V t 0 (0 : Int32)) (fun r119 => Q r119 (vset V t 0 (0 : Int32)))))) ∧ (a1 = (8 : Int32) → wX6_bookings t (vset V t 0 (0 : Int32)) (fun r108 => Q r108 (vset V t 0 (0 : Int32)))))) ∧ (¬ r82 = 0 → (vp_in (((7 : Int32) + a1) - (6 : Int32)) 1019 ∧ Q ((vset V t 0 (0 : Int32)) (t + 1) (((7 : Int32) + a1) - (6 : Int32)).toNatClampNeg) (vset V t 0 (0 : Int32))))))) ∧ (a1 = (5 : Int32) → Q ((vset V t 0 (0 : Int32)) (t + 1) 5) (vset V t 0 (0 : Int32))))) ∧ (a1 = (4 : Int32) → Q ((vset V t 0 (0 : Int32)) (t + 1) 6) (vset V t 0 (0 : Int32))))) ∧ (a1 = (3 : Int32) → Q ((vset V t 0 (0 : Int32)) (t + 1) 1) (vset V t 0 (0 : Int32))))) ∧ (a1 = (2 : Int32) → Q ((vset V t 0 (0 : Int32)) (t + 1) 0) (vset V t 0 (0 : Int32))))) ∧ (a1 = (1 : Int32) → Q ((vset V t 0 (0 : Int32)) (t + 1) 4) (vset V t 0 (0 : Int32))))) ∧ (a1 = 0 → Q ((vset V t 0 (0 : Int32)) (t + 1) 3) (vset V t 0 (0 : Int32))))
theorem mX6_count {G : jG} {l : Launch} (htr : l.stackTraces = false) {sh : List jH} {V : Nat → Nat → Int32} {R : Nat → Nat → Option Nat} {t : Nat} (hT : jReg shX6 sh t) {a1 : Int32} {Q : Int32 → (Nat → Nat → Int32) → Prop} (hw : wX6_count t V a1 Q) : JM G l MX6_count 2 0 0 [.ref t, .int a1] (mk sh V R) (jWr sh R Q) jNo := by
  refine JM.intro (by decide) rfl htr (Nat.le_of_ble_eq_true rfl) ?_
  show J G l MX6_count 2 0 0 0 [(0, .ref t), (1, .int a1)] [] (mk sh V R) _ _
  unfold wX6_count at hw
  refine J.aload_n 0 dX6_count_0 rfl ?_
  refine J.iconst (v := (0 : Int32)) dX6_count_1 (by decide) ?_
  refine pX6_54 rfl hT dX6_count_2 ?_
  refine J.iload_n 1 dX6_count_5 rfl ?_
  refine J.if_ne 16 dX6_count_6 (by decide) ⟨fun c6 => ?_, fun c6 => ?_⟩
  · have hw := hw.1 c6
    refine J.iload_n 1 dX6_count_16 rfl ?_
    refine J.iconst (v := (1 : Int32)) dX6_count_17 (by decide) ?_
    refine J.icmp_ne 28 dX6_count_18 (by decide) ⟨fun c18 => ?_, fun c18 => ?_⟩
    · have hw := hw.1 c18
      refine J.iload_n 1 dX6_count_28 rfl ?_
      refine J.iconst (v := (2 : Int32)) dX6_count_29 (by decide) ?_
      refine J.icmp_ne 40 dX6_count_30 (by decide) ⟨fun c30 => ?_, fun c30 => ?_⟩
      · have hw := hw.1 c30
        refine J.iload_n 1 dX6_count_40 rfl ?_
        refine J.iconst (v := (3 : Int32)) dX6_count_41 (by decide) ?_
        refine J.icmp_ne 52 dX6_count_42 (by decide) ⟨fun c42 => ?_, fun c42 => ?_⟩
        · have hw := hw.1 c42
          refine J.iload_n 1 dX6_count_52 rfl ?_
          refine J.iconst (v := (4 : Int32)) dX6_count_53 (by decide) ?_
          refine J.icmp_ne 65 dX6_count_54 (by decide) ⟨fun c54 => ?_, fun c54 => ?_⟩
          · have hw := hw.1 c54
            refine J.iload_n 1 dX6_count_65 rfl ?_
            refine J.iconst (v := (5 : Int32)) dX6_count_66 (by decide) ?_
            refine J.icmp_ne 77 dX6_count_67 (by decide) ⟨fun c67 => ?_, fun c67 => ?_⟩
            · have hw := hw.1 c67
              refine J.iload_n 1 dX6_count_77 rfl ?_
              refine J.bipush (v := (6 : Int32)) dX6_count_78 (by decide) ?_
              refine J.bipush (v := (7 : Int32)) dX6_count_80 (by decide) ?_
              refine kX6_57 rfl htr dX6_count_82 (by omega) (Nat.le_of_ble_eq_true rfl) hw (fun r82 hw => ?_)
              refine J.if_eq 101 dX6_count_85 (by decide) ⟨fun c85 => ?_, fun c85 => ?_⟩
              · have hw := hw.1 c85
                refine J.iload_n 1 dX6_count_101 rfl ?_
                refine J.bipush (v := (8 : Int32)) dX6_count_102 (by decide) ?_
                refine J.icmp_ne 112 dX6_count_104 (by decide) ⟨fun c104 => ?_, fun c104 => ?_⟩
                · have hw := hw.1 c104
                  refine J.iload_n 1 dX6_count_112 rfl ?_
                  refine J.bipush (v := (9 : Int32)) dX6_count_113 (by decide) ?_
                  refine J.icmp_ne 123 dX6_count_115 (by decide) ⟨fun c115 => ?_, fun c115 => ?_⟩
                  · have hw := hw.1 c115
                    refine J.iload_n 1 dX6_count_123 rfl ?_
                    refine J.bipush (v := (10 : Int32)) dX6_count_124 (by decide) ?_
                    refine J.icmp_ne 137 dX6_count_126 (by decide) ⟨fun c126 => ?_, fun c126 => ?_⟩
                    · have hw := hw.1 c126
                      refine J.iload_n 1 dX6_count_137 rfl ?_
                      refine J.bipush (v := (11 : Int32)) dX6_count_138 (by decide) ?_
                      refine J.icmp_ne 150 dX6_count_140 (by decide) ⟨fun c140 => ?_, fun c140 => ?_⟩
                      · have hw := hw.1 c140
                        refine J.iconst (v := (-1 : Int32)) dX6_count_150 (by decide) ?_
                        exact J.iret rfl dX6_count_151 ⟨_, rfl, _, rfl, hw⟩
                      · have hw := hw.2 c140
                        refine J.aload_n 0 dX6_count_143 rfl ?_
                        refine gX6_205 rfl hT dX6_count_144 ?_
                        refine J.goto 151 dX6_count_147 (by decide) ?_
                        exact J.iret rfl dX6_count_151 ⟨_, rfl, _, rfl, hw⟩
                    · have hw := hw.2 c126
                      refine J.aload_n 0 dX6_count_129 rfl ?_
                      refine gX6_7 rfl hT dX6_count_130 ?_
                      refine J.bipush (v := (9 : Int32)) dX6_count_133 (by decide) ?_
                      refine JV.ialdK 9 dX6_count_135 (hT.ge 1) (hT.at 1 rfl) rfl (by decide) (by decide) ?_
                      exact J.iret rfl dX6_count_136 ⟨_, rfl, _, rfl, hw⟩
                  · have hw := hw.2 c115
                    refine J.aload_n 0 dX6_count_118 rfl ?_
                    refine kX6_319 rfl htr hT dX6_count_119 (by omega) (Nat.le_of_ble_eq_true rfl) hw (fun r119 hw => ?_)
                    exact J.iret rfl dX6_count_122 ⟨_, rfl, _, rfl, hw⟩
                · have hw := hw.2 c104
                  refine J.aload_n 0 dX6_count_107 rfl ?_
                  refine kX6_433 rfl htr hT dX6_count_108 (by omega) (Nat.le_of_ble_eq_true rfl) hw (fun r108 hw => ?_)
                  exact J.iret rfl dX6_count_111 ⟨_, rfl, _, rfl, hw⟩
              · have hw := hw.2 c85
                refine J.aload_n 0 dX6_count_88 rfl ?_
                refine gX6_7 rfl hT dX6_count_89 ?_
                refine J.bipush (v := (7 : Int32)) dX6_count_92 (by decide) ?_
                refine J.iload_n 1 dX6_count_94 rfl ?_
                refine J.iadd dX6_count_95 ?_
                refine J.bipush (v := (6 : Int32)) dX6_count_96 (by decide) ?_
                refine J.isub dX6_count_98 ?_
                obtain ⟨h99, hw⟩ := hw
                refine JV.iald dX6_count_99 (hT.ge 1) (hT.at 1 rfl) h99 ?_
                exact J.iret rfl dX6_count_100 ⟨_, rfl, _, rfl, hw⟩
            · have hw := hw.2 c67
              refine J.aload_n 0 dX6_count_70 rfl ?_
              refine gX6_7 rfl hT dX6_count_71 ?_
              refine J.iconst (v := (5 : Int32)) dX6_count_74 (by decide) ?_
              refine JV.ialdK 5 dX6_count_75 (hT.ge 1) (hT.at 1 rfl) rfl (by decide) (by decide) ?_
              exact J.iret rfl dX6_count_76 ⟨_, rfl, _, rfl, hw⟩
          · have hw := hw.2 c54
            refine J.aload_n 0 dX6_count_57 rfl ?_
            refine gX6_7 rfl hT dX6_count_58 ?_
            refine J.bipush (v := (6 : Int32)) dX6_count_61 (by decide) ?_
            refine JV.ialdK 6 dX6_count_63 (hT.ge 1) (hT.at 1 rfl) rfl (by decide) (by decide) ?_
            exact J.iret rfl dX6_count_64 ⟨_, rfl, _, rfl, hw⟩
        · have hw := hw.2 c42
          refine J.aload_n 0 dX6_count_45 rfl ?_
          refine gX6_7 rfl hT dX6_count_46 ?_
          refine J.iconst (v := (1 : Int32)) dX6_count_49 (by decide) ?_
          refine JV.ialdK 1 dX6_count_50 (hT.ge 1) (hT.at 1 rfl) rfl (by decide) (by decide) ?_
          exact J.iret rfl dX6_count_51 ⟨_, rfl, _, rfl, hw⟩
      · have hw := hw.2 c30
        refine J.aload_n 0 dX6_count_33 rfl ?_
        refine gX6_7 rfl hT dX6_count_34 ?_
        refine J.iconst (v := (0 : Int32)) dX6_count_37 (by decide) ?_
        refine JV.ialdK 0 dX6_count_38 (hT.ge 1) (hT.at 1 rfl) rfl (by decide) (by decide) ?_
        exact J.iret rfl dX6_count_39 ⟨_, rfl, _, rfl, hw⟩
    · have hw := hw.2 c18
      refine J.aload_n 0 dX6_count_21 rfl ?_
      refine gX6_7 rfl hT dX6_count_22 ?_
      refine J.iconst (v := (4 : Int32)) dX6_count_25 (by decide) ?_
      refine JV.ialdK 4 dX6_count_26 (hT.ge 1) (hT.at 1 rfl) rfl (by decide) (by decide) ?_
      exact J.iret rfl dX6_count_27 ⟨_, rfl, _, rfl, hw⟩
  · have hw := hw.2 c6
    refine J.aload_n 0 dX6_count_9 rfl ?_
    refine gX6_7 rfl hT dX6_count_10 ?_
    refine J.iconst (v := (3 : Int32)) dX6_count_13 (by decide) ?_
    refine JV.ialdK 3 dX6_count_14 (hT.ge 1) (hT.at 1 rfl) rfl (by decide) (by decide) ?_
    exact J.iret rfl dX6_count_15 ⟨_, rfl, _, rfl, hw⟩
-- VisitingHoursModel.likedOf(I)I
abbrev MX6_likedOf : jM := (yX6_likedOf, cX6_likedOf, 4, some .int, [])
def wX6_likedOf_4 (t : Nat) (V : Nat → Nat → Int32) (a1 : Int32) (Q : Int32 → Prop) : Nat → Int32 → Int32 → Prop
  | 0, _, _ => False
  | f + 1, x2, x3 =>
    (((V (t + 1) 3) ≤ x3 → Q x2) ∧ (¬ (V (t + 1) 3) ≤ x3 → wX6_rankOf t V x3 a1 (fun r18 => (∀ y22 : Int32, y22 = (x2 + r18) → (∀ y23 : Int32, y23 = x3 + (1 : Int32) → wX6_likedOf_4 t V a1 Q f y22 y23)))))
theorem rX6_likedOf_4 {G : jG} {l : Launch} {d c n : Nat} (htr : l.stackTraces = false) (hdd : 1 ≤ d) {sh : List jH} {t : Nat} (hT : jReg shX6 sh t) {R : Nat → Nat → Option Nat} {V : Nat → Nat → Int32} {a1 : Int32} {Q : Int32 → Prop} : ∀ (f : Nat) (x2 : Int32) (x3 : Int32), wX6_likedOf_4 t V a1 Q f x2 x3 → J G l MX6_likedOf d c n 4 [(0, .ref t), (1, .int a1), (2, .int x2), (3, .int x3)] [] (mk sh V R) (jRd (mk sh V R) Q) jNo := by
  intro f
  induction f with
  | zero =>
    intro x2 x3 hw
    rw [wX6_likedOf_4] at hw
    exact hw.elim
  | succ f ih =>
    intro x2 x3 hw
    rw [wX6_likedOf_4] at hw
    refine J.iload_n 3 dX6_likedOf_4 rfl ?_
    refine J.aload_n 0 dX6_likedOf_5 rfl ?_
    refine gX6_7 rfl hT dX6_likedOf_6 ?_
    refine J.iconst (v := (3 : Int32)) dX6_likedOf_9 (by decide) ?_
    refine JV.ialdK 3 dX6_likedOf_10 (hT.ge 1) (hT.at 1 rfl) rfl (by decide) (by decide) ?_
    refine J.icmp_ge 29 dX6_likedOf_11 (by decide) ⟨fun c11 => ?_, fun c11 => ?_⟩
    · have hw := hw.1 c11
      refine J.iload_n 2 dX6_likedOf_29 rfl ?_
      exact J.iret rfl dX6_likedOf_30 ⟨rfl, _, rfl, hw⟩
    · have hw := hw.2 c11
      refine J.iload_n 2 dX6_likedOf_14 rfl ?_
      refine J.aload_n 0 dX6_likedOf_15 rfl ?_
      refine J.iload_n 3 dX6_likedOf_16 rfl ?_
      refine J.iload_n 1 dX6_likedOf_17 rfl ?_
      refine kX6_61 rfl htr hT dX6_likedOf_18 (by omega) (Nat.le_of_ble_eq_true rfl) hw (fun r18 hw => ?_)
      refine J.iadd dX6_likedOf_21 ?_
      refine J.nm hw (fun y22 hw => ?_)
      refine J.istore_n (lv' := [(2, .int y22), (0, .ref t), (1, .int a1), (3, .int x3)]) dX6_likedOf_22 (by decide) rfl ?_
      refine J.iincN 3 (K := (1 : Int32)) (lv' := fun y23 => [(3, .int y23), (2, .int y22), (0, .ref t), (1, .int a1)]) dX6_likedOf_23 rfl (by decide) (by decide) (fun _ => rfl) hw (fun y23 hw => ?_)
      refine J.goto 4 dX6_likedOf_26 (by decide) ?_
      exact J.pick [2, 3, 1, 0] rfl (ih _ _ hw)
def wX6_likedOf (t : Nat) (V : Nat → Nat → Int32) (a1 : Int32) (Q : Int32 → Prop) : Prop :=
  (∃ f9, wX6_likedOf_4 t V a1 Q f9 (0 : Int32) (0 : Int32))
theorem mX6_likedOf {G : jG} {l : Launch} (htr : l.stackTraces = false) {sh : List jH} {V : Nat → Nat → Int32} {R : Nat → Nat → Option Nat} {t : Nat} (hT : jReg shX6 sh t) {a1 : Int32} {Q : Int32 → Prop} (hw : wX6_likedOf t V a1 Q) : JM G l MX6_likedOf 1 0 0 [.ref t, .int a1] (mk sh V R) (jRd (mk sh V R) Q) jNo := by
  refine JM.intro (by decide) rfl htr (Nat.le_of_ble_eq_true rfl) ?_
  show J G l MX6_likedOf 1 0 0 0 [(0, .ref t), (1, .int a1)] [] (mk sh V R) _ _
  unfold wX6_likedOf at hw
  refine J.iconst (v := (0 : Int32)) dX6_likedOf_0 (by decide) ?_
  refine J.istore_n (lv' := [(2, .int (0 : Int32)), (0, .ref t), (1, .int a1)]) dX6_likedOf_1 (by decide) rfl ?_
  refine J.iconst (v := (0 : Int32)) dX6_likedOf_2 (by decide) ?_
  refine J.istore_n (lv' := [(3, .int (0 : Int32)), (2, .int (0 : Int32)), (0, .ref t), (1, .int a1)]) dX6_likedOf_3 (by decide) rfl ?_
  obtain ⟨f9, hw⟩ := hw
  exact J.pick [2, 3, 1, 0] rfl (rX6_likedOf_4 htr (Nat.le_refl _) hT f9 _ _ hw)
theorem kX6_328 {G : jG} {l : Launch} {M : jM} {d c n pc : Nat} {lv : List (Nat × Value)} {rest : List Value} {post : Option Value → List jC → Prop} {xp : String → List jC → Prop} (hM : M.1.cls = RX6) (htr : l.stackTraces = false) {sh : List jH} {V : Nat → Nat → Int32} {R : Nat → Nat → Option Nat} {t : Nat} (hT : jReg shX6 sh t) {a1 : Int32} {Q : Int32 → Prop} (hd : decode M.2.1 pc = .ok (.invokevirtual 328, 3)) (hdd : 1 + 1 ≤ d) (hw8 : (rest.map fun v => v.category).sum ≤ 8) (hw : wX6_likedOf t V a1 Q) (kk : ∀ r, Q r → J G l M d c n (pc + 3) lv (.int r :: rest) (mk sh V R) post xp) : J G l M d c n pc lv (.int a1 :: .ref t :: rest) (mk sh V R) post xp :=
  J.callV (As := [.int a1]) (hcw := by rw [hM]; exact lw_V q2427 q2429 qs105 q152 q2430) (mX6_likedOf htr hT hw) hd rfl ⟨5, _, _, mk_at (hT.at 0 rfl), rfl, rfl, fun _ => rfl⟩ ⟨rfl, by decide, by decide, by show _ = some 1; decide +kernel⟩ hw8 ⟨hdd, by decide⟩ jcc0 (fun r9 g9 h9 => by obtain ⟨rfl, r, rfl, h⟩ := h9; exact kk r h) jNo.x
-- VisitingHoursModel.dearest()I
abbrev MX6_dearest : jM := (yX6_dearest, cX6_dearest, 3, some .int, [])
def wX6_dearest_9 (t : Nat) (Q : Int32 → (Nat → Nat → Int32) → Prop) : Nat → (Nat → Nat → Int32) → Int32 → Int32 → Prop
  | 0, _, _, _ => False
  | f + 1, V, x1, x2 =>
    (((V (t + 1) 4) ≤ x2 → Q x1 V) ∧ (¬ (V (t + 1) 4) ≤ x2 → ((x1 = (-1 : Int32) → (∀ y39 : Int32, y39 = x2 + (1 : Int32) → wX6_dearest_9 t Q f V x2 y39)) ∧ (¬ x1 = (-1 : Int32) → wX6_likedOf t V x2 (fun r26 => wX6_likedOf t V x1 (fun r31 => ((r26 ≤ r31 → (∀ y39 : Int32, y39 = x2 + (1 : Int32) → wX6_dearest_9 t Q f V x1 y39)) ∧ (¬ r26 ≤ r31 → (∀ y39 : Int32, y39 = x2 + (1 : Int32) → wX6_dearest_9 t Q f V x2 y39)))))))))
theorem rX6_dearest_9 {G : jG} {l : Launch} {d c n : Nat} (htr : l.stackTraces = false) (hdd : 2 ≤ d) {sh : List jH} {t : Nat} (hT : jReg shX6 sh t) {R : Nat → Nat → Option Nat} {Q : Int32 → (Nat → Nat → Int32) → Prop} : ∀ (f : Nat) (V : Nat → Nat → Int32) (x1 : Int32) (x2 : Int32), wX6_dearest_9 t Q f V x1 x2 → J G l MX6_dearest d c n 9 [(0, .ref t), (1, .int x1), (2, .int x2)] [] (mk sh V R) (jWr sh R Q) jNo := by
  intro f
  induction f with
  | zero =>
    intro V x1 x2 hw
    rw [wX6_dearest_9] at hw
    exact hw.elim
  | succ f ih =>
    intro V x1 x2 hw
    rw [wX6_dearest_9] at hw
    refine J.iload_n 2 dX6_dearest_9 rfl ?_
    refine J.aload_n 0 dX6_dearest_10 rfl ?_
    refine gX6_7 rfl hT dX6_dearest_11 ?_
    refine J.iconst (v := (4 : Int32)) dX6_dearest_14 (by decide) ?_
    refine JV.ialdK 4 dX6_dearest_15 (hT.ge 1) (hT.at 1 rfl) rfl (by decide) (by decide) ?_
    refine J.icmp_ge 45 dX6_dearest_16 (by decide) ⟨fun c16 => ?_, fun c16 => ?_⟩
    · have hw := hw.1 c16
      refine J.iload_n 1 dX6_dearest_45 rfl ?_
      exact J.iret rfl dX6_dearest_46 ⟨_, rfl, _, rfl, hw⟩
    · have hw := hw.2 c16
      refine J.iload_n 1 dX6_dearest_19 rfl ?_
      refine J.iconst (v := (-1 : Int32)) dX6_dearest_20 (by decide) ?_
      refine J.icmp_eq 37 dX6_dearest_21 (by decide) ⟨fun c21 => ?_, fun c21 => ?_⟩
      · have hw := hw.1 c21
        refine J.iload_n 2 dX6_dearest_37 rfl ?_
        refine J.istore_n (lv' := [(1, .int x2), (0, .ref t), (2, .int x2)]) dX6_dearest_38 (by decide) rfl ?_
        refine J.iincN 2 (K := (1 : Int32)) (lv' := fun y39 => [(2, .int y39), (1, .int x2), (0, .ref t)]) dX6_dearest_39 rfl (by decide) (by decide) (fun _ => rfl) hw (fun y39 hw => ?_)
        refine J.goto 9 dX6_dearest_42 (by decide) ?_
        exact J.pick [2, 1, 0] rfl (ih _ _ _ hw)
      · have hw := hw.2 c21
        refine J.aload_n 0 dX6_dearest_24 rfl ?_
        refine J.iload_n 2 dX6_dearest_25 rfl ?_
        refine kX6_328 rfl htr hT dX6_dearest_26 (by omega) (Nat.le_of_ble_eq_true rfl) hw (fun r26 hw => ?_)
        refine J.aload_n 0 dX6_dearest_29 rfl ?_
        refine J.iload_n 1 dX6_dearest_30 rfl ?_
        refine kX6_328 rfl htr hT dX6_dearest_31 (by omega) (Nat.le_of_ble_eq_true rfl) hw (fun r31 hw => ?_)
        refine J.icmp_le 39 dX6_dearest_34 (by decide) ⟨fun c34 => ?_, fun c34 => ?_⟩
        · have hw := hw.1 c34
          refine J.iincN 2 (K := (1 : Int32)) (lv' := fun y39 => [(2, .int y39), (0, .ref t), (1, .int x1)]) dX6_dearest_39 rfl (by decide) (by decide) (fun _ => rfl) hw (fun y39 hw => ?_)
          refine J.goto 9 dX6_dearest_42 (by decide) ?_
          exact J.pick [1, 2, 0] rfl (ih _ _ _ hw)
        · have hw := hw.2 c34
          refine J.iload_n 2 dX6_dearest_37 rfl ?_
          refine J.istore_n (lv' := [(1, .int x2), (0, .ref t), (2, .int x2)]) dX6_dearest_38 (by decide) rfl ?_
          refine J.iincN 2 (K := (1 : Int32)) (lv' := fun y39 => [(2, .int y39), (1, .int x2), (0, .ref t)]) dX6_dearest_39 rfl (by decide) (by decide) (fun _ => rfl) hw (fun y39 hw => ?_)
          refine J.goto 9 dX6_dearest_42 (by decide) ?_
          exact J.pick [2, 1, 0] rfl (ih _ _ _ hw)
def wX6_dearest (t : Nat) (V : Nat → Nat → Int32) (Q : Int32 → (Nat → Nat → Int32) → Prop) : Prop :=
  (∃ f9, wX6_dearest_9 t Q f9 (vset V t 0 (0 : Int32)) (-1 : Int32) (0 : Int32))
theorem mX6_dearest {G : jG} {l : Launch} (htr : l.stackTraces = false) {sh : List jH} {V : Nat → Nat → Int32} {R : Nat → Nat → Option Nat} {t : Nat} (hT : jReg shX6 sh t) {Q : Int32 → (Nat → Nat → Int32) → Prop} (hw : wX6_dearest t V Q) : JM G l MX6_dearest 2 0 0 [.ref t] (mk sh V R) (jWr sh R Q) jNo := by
  refine JM.intro (by decide) rfl htr (Nat.le_of_ble_eq_true rfl) ?_
  show J G l MX6_dearest 2 0 0 0 [(0, .ref t)] [] (mk sh V R) _ _
  unfold wX6_dearest at hw
  refine J.aload_n 0 dX6_dearest_0 rfl ?_
  refine J.iconst (v := (0 : Int32)) dX6_dearest_1 (by decide) ?_
  refine pX6_54 rfl hT dX6_dearest_2 ?_
  refine J.iconst (v := (-1 : Int32)) dX6_dearest_5 (by decide) ?_
  refine J.istore_n (lv' := [(1, .int (-1 : Int32)), (0, .ref t)]) dX6_dearest_6 (by decide) rfl ?_
  refine J.iconst (v := (0 : Int32)) dX6_dearest_7 (by decide) ?_
  refine J.istore_n (lv' := [(2, .int (0 : Int32)), (1, .int (-1 : Int32)), (0, .ref t)]) dX6_dearest_8 (by decide) rfl ?_
  obtain ⟨f9, hw⟩ := hw
  exact J.pick [2, 1, 0] rfl (rX6_dearest_9 htr (Nat.le_refl _) hT f9 _ _ _ hw)
-- VisitingHoursModel.draw(I)I
abbrev MX6_draw : jM := (yX6_draw, cX6_draw, 2, some .int, [])
def wX6_draw (t : Nat) (V : Nat → Nat → Int32) (a1 : Int32) (Q : Int32 → (Nat → Nat → Int32) → Prop) : Prop :=
  (∀ y21 : Int32, y21 = (((1103515245 : Int32) * (V (t + 1) 10)) + (12345 : Int32)) → (¬ a1 = 0 ∧ Q ((((((vset V (t + 1) 10 y21) (t + 1) 10).toUInt32 >>> ((16 : Int32).toUInt32 &&& Int32.toUInt32 31)).toInt32) &&& (32767 : Int32)) - (((((vset V (t + 1) 10 y21) (t + 1) 10).toUInt32 >>> ((16 : Int32).toUInt32 &&& Int32.toUInt32 31)).toInt32) &&& (32767 : Int32)) / a1 * a1) (vset V (t + 1) 10 y21)))
theorem mX6_draw {G : jG} {l : Launch} (htr : l.stackTraces = false) {sh : List jH} {V : Nat → Nat → Int32} {R : Nat → Nat → Option Nat} {t : Nat} (hT : jReg shX6 sh t) {a1 : Int32} {Q : Int32 → (Nat → Nat → Int32) → Prop} (hw : wX6_draw t V a1 Q) : JM G l MX6_draw 0 0 0 [.ref t, .int a1] (mk sh V R) (jWr sh R Q) jNo := by
  refine JM.intro (by decide) rfl htr (Nat.le_of_ble_eq_true rfl) ?_
  show J G l MX6_draw 0 0 0 0 [(0, .ref t), (1, .int a1)] [] (mk sh V R) _ _
  unfold wX6_draw at hw
  refine J.aload_n 0 dX6_draw_0 rfl ?_
  refine gX6_7 rfl hT dX6_draw_1 ?_
  refine J.bipush (v := (10 : Int32)) dX6_draw_4 (by decide) ?_
  refine J.ldcw (v := (1103515245 : Int32)) dX6_draw_6 q2537 ?_
  refine J.aload_n 0 dX6_draw_9 rfl ?_
  refine gX6_7 rfl hT dX6_draw_10 ?_
  refine J.bipush (v := (10 : Int32)) dX6_draw_13 (by decide) ?_
  refine JV.ialdK 10 dX6_draw_15 (hT.ge 1) (hT.at 1 rfl) rfl (by decide) (by decide) ?_
  refine J.imul dX6_draw_16 ?_
  refine J.sipush (v := (12345 : Int32)) dX6_draw_17 (by decide) ?_
  refine J.iadd dX6_draw_20 ?_
  refine J.nm hw (fun y21 hw => ?_)
  refine JV.iastK 10 dX6_draw_21 (hT.ge 1) (hT.at 1 rfl) rfl (by decide) (by decide) ?_
  refine J.aload_n 0 dX6_draw_22 rfl ?_
  refine gX6_7 rfl hT dX6_draw_23 ?_
  refine J.bipush (v := (10 : Int32)) dX6_draw_26 (by decide) ?_
  refine JV.ialdK 10 dX6_draw_28 (hT.ge 1) (hT.at 1 rfl) rfl (by decide) (by decide) ?_
  refine J.bipush (v := (16 : Int32)) dX6_draw_29 (by decide) ?_
  refine J.iushr dX6_draw_31 ?_
  refine J.sipush (v := (32767 : Int32)) dX6_draw_32 (by decide) ?_
  refine J.iand dX6_draw_35 ?_
  refine J.iload_n 1 dX6_draw_36 rfl ?_
  obtain ⟨h37, hw⟩ := hw
  refine J.irem dX6_draw_37 h37 ?_
  exact J.iret rfl dX6_draw_38 ⟨_, rfl, _, rfl, hw⟩
-- VisitingHoursModel.end(I)Z
abbrev MX6_end : jM := (yX6_end, cX6_end, 2, some .boolean, [])
def wX6_end (t : Nat) (V : Nat → Nat → Int32) (a1 : Int32) (Q : Int32 → (Nat → Nat → Int32) → Prop) : Prop :=
  wX6_isIn a1 (0 : Int32) ((vset V t 0 (0 : Int32)) t 8) (fun r11 => ((¬ r11 = 0 → Q (1 : Int32) (vset (vset V t 0 (0 : Int32)) t 8 a1)) ∧ (r11 = 0 → Q (0 : Int32) (vset V t 0 (0 : Int32)))))
theorem mX6_end {G : jG} {l : Launch} (htr : l.stackTraces = false) {sh : List jH} {V : Nat → Nat → Int32} {R : Nat → Nat → Option Nat} {t : Nat} (hT : jReg shX6 sh t) {a1 : Int32} {Q : Int32 → (Nat → Nat → Int32) → Prop} (hw : wX6_end t V a1 Q) : JM G l MX6_end 1 0 0 [.ref t, .int a1] (mk sh V R) (jWr sh R Q) jNo := by
  refine JM.intro (by decide) rfl htr (Nat.le_of_ble_eq_true rfl) ?_
  show J G l MX6_end 1 0 0 0 [(0, .ref t), (1, .int a1)] [] (mk sh V R) _ _
  unfold wX6_end at hw
  refine J.aload_n 0 dX6_end_0 rfl ?_
  refine J.iconst (v := (0 : Int32)) dX6_end_1 (by decide) ?_
  refine pX6_54 rfl hT dX6_end_2 ?_
  refine J.iload_n 1 dX6_end_5 rfl ?_
  refine J.iconst (v := (0 : Int32)) dX6_end_6 (by decide) ?_
  refine J.aload_n 0 dX6_end_7 rfl ?_
  refine gX6_81 rfl hT dX6_end_8 ?_
  refine kX6_57 rfl htr dX6_end_11 (by omega) (Nat.le_of_ble_eq_true rfl) hw (fun r11 hw => ?_)
  refine J.if_ne 19 dX6_end_14 (by decide) ⟨fun c14 => ?_, fun c14 => ?_⟩
  · have hw := hw.1 c14
    refine J.aload_n 0 dX6_end_19 rfl ?_
    refine J.iload_n 1 dX6_end_20 rfl ?_
    refine pX6_81 rfl hT dX6_end_21 ?_
    refine J.iconst (v := (1 : Int32)) dX6_end_24 (by decide) ?_
    exact J.zret rfl rfl dX6_end_25 ⟨_, rfl, _, rfl, hw⟩
  · have hw := hw.2 c14
    refine J.iconst (v := (0 : Int32)) dX6_end_17 (by decide) ?_
    exact J.zret rfl rfl dX6_end_18 ⟨_, rfl, _, rfl, hw⟩
theorem gX6_25 {G : jG} {l : Launch} {M : jM} {d c n pc : Nat} {lv : List (Nat × Value)} {st : List Value} {sh : List jH} {V : Nat → Nat → Int32} {R : Nat → Nat → Option Nat} {post : Option Value → List jC → Prop} {xp : String → List jC → Prop} {t : Nat} (hM : M.1.cls = RX6) (hT : jReg shX6 sh t) (hd : decode M.2.1 pc = .ok (.getfield 25, 3)) (kk : J G l M d c n (pc + 3) lv (.int (V t 12) :: st) (mk sh V R) post xp) : J G l M d c n pc lv (.ref t :: st) (mk sh V R) post xp := JV.getf (C := RX6) (T0 := TX6) (N := 28) 12 hd hT.1 (hT.at 0 rfl) rfl in_X6 (by decide) (by rw [hM]; exact q2140) rfl rfl kk
-- VisitingHoursModel.fault()I
abbrev MX6_fault : jM := (yX6_fault, cX6_fault, 1, some .int, [])
def wX6_fault (t : Nat) (V : Nat → Nat → Int32) (Q : Int32 → (Nat → Nat → Int32) → Prop) : Prop :=
  Q ((vset V t 0 (0 : Int32)) t 12) (vset V t 0 (0 : Int32))
theorem mX6_fault {G : jG} {l : Launch} (htr : l.stackTraces = false) {sh : List jH} {V : Nat → Nat → Int32} {R : Nat → Nat → Option Nat} {t : Nat} (hT : jReg shX6 sh t) {Q : Int32 → (Nat → Nat → Int32) → Prop} (hw : wX6_fault t V Q) : JM G l MX6_fault 0 0 0 [.ref t] (mk sh V R) (jWr sh R Q) jNo := by
  refine JM.intro (by decide) rfl htr (Nat.le_of_ble_eq_true rfl) ?_
  show J G l MX6_fault 0 0 0 0 [(0, .ref t)] [] (mk sh V R) _ _
  unfold wX6_fault at hw
  refine J.aload_n 0 dX6_fault_0 rfl ?_
  refine J.iconst (v := (0 : Int32)) dX6_fault_1 (by decide) ?_
  refine pX6_54 rfl hT dX6_fault_2 ?_
  refine J.aload_n 0 dX6_fault_5 rfl ?_
  refine gX6_25 rfl hT dX6_fault_6 ?_
  exact J.iret rfl dX6_fault_9 ⟨_, rfl, _, rfl, hw⟩
theorem gX6_22 {G : jG} {l : Launch} {M : jM} {d c n pc : Nat} {lv : List (Nat × Value)} {st : List Value} {sh : List jH} {V : Nat → Nat → Int32} {R : Nat → Nat → Option Nat} {post : Option Value → List jC → Prop} {xp : String → List jC → Prop} {t : Nat} (hM : M.1.cls = RX6) (hT : jReg shX6 sh t) (hd : decode M.2.1 pc = .ok (.getfield 22, 3)) (kk : J G l M d c n (pc + 3) lv (.ref (t + 5) :: st) (mk sh V R) post xp) : J G l M d c n pc lv (.ref t :: st) (mk sh V R) post xp := JV.getf (C := RX6) (T0 := TX6) (N := 28) 7 hd hT.1 (hT.at 0 rfl) rfl in_X6 (by decide) (by rw [hM]; exact q2135) rfl rfl kk
-- VisitingHoursModel.feed(IIIII)I
abbrev MX6_feed : jM := (yX6_feed, cX6_feed, 8, some .int, [])
def wX6_feed_76 (t : Nat) (a1 : Int32) (a2 : Int32) (a3 : Int32) (a4 : Int32) (a5 : Int32) (Q : Int32 → (Nat → Nat → Int32) → Prop) (K23 : (Nat → Nat → Int32) → Int32 → Prop) (V : Nat → Nat → Int32) (x6 : Int32) (s0 : Int32) : Prop :=
  (∀ y103 : Int32, y103 = (((s0.toUInt32 >>> (((24 : Int32) - ((8 : Int32) * (x6 - x6 / (4 : Int32) * (4 : Int32)))).toUInt32 &&& Int32.toUInt32 31)).toInt32) &&& (255 : Int32)) → (vp_in (V t 8) 400 ∧ (∀ y111 : Int32, y111 = (((vset V (t + 5) (V t 8).toNatClampNeg y103) t 8) + (1 : Int32)) → (∀ y114 : Int32, y114 = x6 + (1 : Int32) → K23 (vset (vset V (t + 5) (V t 8).toNatClampNeg y103) t 8 y111) y114))))
theorem rX6_feed_76 {G : jG} {l : Launch} {d c n : Nat} (htr : l.stackTraces = false) (hdd : 0 ≤ d) {sh : List jH} {t : Nat} (hT : jReg shX6 sh t) {R : Nat → Nat → Option Nat} {a1 : Int32} {a2 : Int32} {a3 : Int32} {a4 : Int32} {a5 : Int32} {Q : Int32 → (Nat → Nat → Int32) → Prop} {K23 : (Nat → Nat → Int32) → Int32 → Prop} (hK23 : ∀ (V : Nat → Nat → Int32) (x6 : Int32), K23 V x6 → J G l MX6_feed d c n 23 [(0, .ref t), (1, .int a1), (2, .int a2), (3, .int a3), (4, .int a4), (5, .int a5), (6, .int x6)] [] (mk sh V R) (jWr sh R Q) jNo) {V : Nat → Nat → Int32} {x6 : Int32} {s0 : Int32} (hw : wX6_feed_76 t a1 a2 a3 a4 a5 Q K23 V x6 s0) : J G l MX6_feed d c n 76 [(0, .ref t), (1, .int a1), (2, .int a2), (3, .int a3), (4, .int a4), (5, .int a5), (6, .int x6)] [.int s0] (mk sh V R) (jWr sh R Q) jNo := by
  unfold wX6_feed_76 at hw
  refine J.istore (lv' := [(7, .int s0), (0, .ref t), (1, .int a1), (2, .int a2), (3, .int a3), (4, .int a4), (5, .int a5), (6, .int x6)]) dX6_feed_76 (by decide) rfl ?_
  refine J.aload_n 1 dX6_feed_78 rfl ?_
  refine gX6_22 rfl hT dX6_feed_79 ?_
  refine J.aload_n 1 dX6_feed_82 rfl ?_
  refine gX6_81 rfl hT dX6_feed_83 ?_
  refine J.iload 0 dX6_feed_86 rfl ?_
  refine J.bipush (v := (24 : Int32)) dX6_feed_88 (by decide) ?_
  refine J.bipush (v := (8 : Int32)) dX6_feed_90 (by decide) ?_
  refine J.iload 7 dX6_feed_92 rfl ?_
  refine J.iconst (v := (4 : Int32)) dX6_feed_94 (by decide) ?_
  refine J.irem dX6_feed_95 (by decide) ?_
  refine J.imul dX6_feed_96 ?_
  refine J.isub dX6_feed_97 ?_
  refine J.iushr dX6_feed_98 ?_
  refine J.sipush (v := (255 : Int32)) dX6_feed_99 (by decide) ?_
  refine J.iand dX6_feed_102 ?_
  refine J.nm hw (fun y103 hw => ?_)
  obtain ⟨h103, hw⟩ := hw
  refine JV.iast dX6_feed_103 (hT.ge 5) (hT.at 5 rfl) h103 ?_
  refine J.aload_n 1 dX6_feed_104 rfl ?_
  refine J.dup dX6_feed_105 rfl ?_
  refine gX6_81 rfl hT dX6_feed_106 ?_
  refine J.iconst (v := (1 : Int32)) dX6_feed_109 (by decide) ?_
  refine J.iadd dX6_feed_110 ?_
  refine J.nm hw (fun y111 hw => ?_)
  refine pX6_81 rfl hT dX6_feed_111 ?_
  refine J.iincN 7 (K := (1 : Int32)) (lv' := fun y114 => [(6, .int y114), (7, .int s0), (0, .ref t), (1, .int a1), (2, .int a2), (3, .int a3), (4, .int a4), (5, .int a5)]) dX6_feed_114 rfl (by decide) (by decide) (fun _ => rfl) hw (fun y114 hw => ?_)
  refine J.goto 23 dX6_feed_117 (by decide) ?_
  exact J.pick [2, 3, 4, 5, 6, 7, 0] rfl (hK23 _ _ hw)
def wX6_feed_23 (t : Nat) (a1 : Int32) (a2 : Int32) (a3 : Int32) (a4 : Int32) (a5 : Int32) (Q : Int32 → (Nat → Nat → Int32) → Prop) : Nat → (Nat → Nat → Int32) → Int32 → Prop
  | 0, _, _ => False
  | f + 1, V, x6 =>
    (((20 : Int32) ≤ x6 → Q (V t 8) V) ∧ (¬ (20 : Int32) ≤ x6 → (((4 : Int32) ≤ x6 → (((8 : Int32) ≤ x6 → (((12 : Int32) ≤ x6 → (((16 : Int32) ≤ x6 → wX6_feed_76 t a1 a2 a3 a4 a5 Q (fun V x6 => wX6_feed_23 t a1 a2 a3 a4 a5 Q f V x6) V x6 a5) ∧ (¬ (16 : Int32) ≤ x6 → wX6_feed_76 t a1 a2 a3 a4 a5 Q (fun V x6 => wX6_feed_23 t a1 a2 a3 a4 a5 Q f V x6) V x6 a4))) ∧ (¬ (12 : Int32) ≤ x6 → wX6_feed_76 t a1 a2 a3 a4 a5 Q (fun V x6 => wX6_feed_23 t a1 a2 a3 a4 a5 Q f V x6) V x6 a3))) ∧ (¬ (8 : Int32) ≤ x6 → wX6_feed_76 t a1 a2 a3 a4 a5 Q (fun V x6 => wX6_feed_23 t a1 a2 a3 a4 a5 Q f V x6) V x6 a2))) ∧ (¬ (4 : Int32) ≤ x6 → wX6_feed_76 t a1 a2 a3 a4 a5 Q (fun V x6 => wX6_feed_23 t a1 a2 a3 a4 a5 Q f V x6) V x6 a1))))
theorem rX6_feed_23 {G : jG} {l : Launch} {d c n : Nat} (htr : l.stackTraces = false) (hdd : 0 ≤ d) {sh : List jH} {t : Nat} (hT : jReg shX6 sh t) {R : Nat → Nat → Option Nat} {a1 : Int32} {a2 : Int32} {a3 : Int32} {a4 : Int32} {a5 : Int32} {Q : Int32 → (Nat → Nat → Int32) → Prop} : ∀ (f : Nat) (V : Nat → Nat → Int32) (x6 : Int32), wX6_feed_23 t a1 a2 a3 a4 a5 Q f V x6 → J G l MX6_feed d c n 23 [(0, .ref t), (1, .int a1), (2, .int a2), (3, .int a3), (4, .int a4), (5, .int a5), (6, .int x6)] [] (mk sh V R) (jWr sh R Q) jNo := by
  intro f
  induction f with
  | zero =>
    intro V x6 hw
    rw [wX6_feed_23] at hw
    exact hw.elim
  | succ f ih =>
    intro V x6 hw
    rw [wX6_feed_23] at hw
    refine J.iload 6 dX6_feed_23 rfl ?_
    refine J.bipush (v := (20 : Int32)) dX6_feed_25 (by decide) ?_
    refine J.icmp_ge 120 dX6_feed_27 (by decide) ⟨fun c27 => ?_, fun c27 => ?_⟩
    · have hw := hw.1 c27
      refine J.aload_n 0 dX6_feed_120 rfl ?_
      refine gX6_81 rfl hT dX6_feed_121 ?_
      exact J.iret rfl dX6_feed_124 ⟨_, rfl, _, rfl, hw⟩
    · have hw := hw.2 c27
      refine J.iload 6 dX6_feed_30 rfl ?_
      refine J.iconst (v := (4 : Int32)) dX6_feed_32 (by decide) ?_
      refine J.icmp_ge 40 dX6_feed_33 (by decide) ⟨fun c33 => ?_, fun c33 => ?_⟩
      · have hw := hw.1 c33
        refine J.iload 6 dX6_feed_40 rfl ?_
        refine J.bipush (v := (8 : Int32)) dX6_feed_42 (by decide) ?_
        refine J.icmp_ge 51 dX6_feed_44 (by decide) ⟨fun c44 => ?_, fun c44 => ?_⟩
        · have hw := hw.1 c44
          refine J.iload 6 dX6_feed_51 rfl ?_
          refine J.bipush (v := (12 : Int32)) dX6_feed_53 (by decide) ?_
          refine J.icmp_ge 62 dX6_feed_55 (by decide) ⟨fun c55 => ?_, fun c55 => ?_⟩
          · have hw := hw.1 c55
            refine J.iload 6 dX6_feed_62 rfl ?_
            refine J.bipush (v := (16 : Int32)) dX6_feed_64 (by decide) ?_
            refine J.icmp_ge 74 dX6_feed_66 (by decide) ⟨fun c66 => ?_, fun c66 => ?_⟩
            · have hw := hw.1 c66
              refine J.iload 5 dX6_feed_74 rfl ?_
              exact (rX6_feed_76 htr hdd hT ih hw)
            · have hw := hw.2 c66
              refine J.iload 4 dX6_feed_69 rfl ?_
              refine J.goto 76 dX6_feed_71 (by decide) ?_
              exact (rX6_feed_76 htr hdd hT ih hw)
          · have hw := hw.2 c55
            refine J.iload_n 3 dX6_feed_58 rfl ?_
            refine J.goto 76 dX6_feed_59 (by decide) ?_
            exact (rX6_feed_76 htr hdd hT ih hw)
        · have hw := hw.2 c44
          refine J.iload_n 2 dX6_feed_47 rfl ?_
          refine J.goto 76 dX6_feed_48 (by decide) ?_
          exact (rX6_feed_76 htr hdd hT ih hw)
      · have hw := hw.2 c33
        refine J.iload_n 1 dX6_feed_36 rfl ?_
        refine J.goto 76 dX6_feed_37 (by decide) ?_
        exact (rX6_feed_76 htr hdd hT ih hw)
def wX6_feed (t : Nat) (V : Nat → Nat → Int32) (a1 : Int32) (a2 : Int32) (a3 : Int32) (a4 : Int32) (a5 : Int32) (Q : Int32 → (Nat → Nat → Int32) → Prop) : Prop :=
  (((((vset V t 0 (0 : Int32)) t 8) + (20 : Int32)) ≤ (400 : Int32) → (∃ f9, wX6_feed_23 t a1 a2 a3 a4 a5 Q f9 (vset V t 0 (0 : Int32)) (0 : Int32))) ∧ (¬ (((vset V t 0 (0 : Int32)) t 8) + (20 : Int32)) ≤ (400 : Int32) → Q (-1 : Int32) (vset V t 0 (0 : Int32))))
theorem mX6_feed {G : jG} {l : Launch} (htr : l.stackTraces = false) {sh : List jH} {V : Nat → Nat → Int32} {R : Nat → Nat → Option Nat} {t : Nat} (hT : jReg shX6 sh t) {a1 : Int32} {a2 : Int32} {a3 : Int32} {a4 : Int32} {a5 : Int32} {Q : Int32 → (Nat → Nat → Int32) → Prop} (hw : wX6_feed t V a1 a2 a3 a4 a5 Q) : JM G l MX6_feed 0 0 0 [.ref t, .int a1, .int a2, .int a3, .int a4, .int a5] (mk sh V R) (jWr sh R Q) jNo := by
  refine JM.intro (by decide) rfl htr (Nat.le_of_ble_eq_true rfl) ?_
  show J G l MX6_feed 0 0 0 0 [(0, .ref t), (1, .int a1), (2, .int a2), (3, .int a3), (4, .int a4), (5, .int a5)] [] (mk sh V R) _ _
  unfold wX6_feed at hw
  refine J.aload_n 0 dX6_feed_0 rfl ?_
  refine J.iconst (v := (0 : Int32)) dX6_feed_1 (by decide) ?_
  refine pX6_54 rfl hT dX6_feed_2 ?_
  refine J.aload_n 0 dX6_feed_5 rfl ?_
  refine gX6_81 rfl hT dX6_feed_6 ?_
  refine J.bipush (v := (20 : Int32)) dX6_feed_9 (by decide) ?_
  refine J.iadd dX6_feed_11 ?_
  refine J.sipush (v := (400 : Int32)) dX6_feed_12 (by decide) ?_
  refine J.icmp_le 20 dX6_feed_15 (by decide) ⟨fun c15 => ?_, fun c15 => ?_⟩
  · have hw := hw.1 c15
    refine J.iconst (v := (0 : Int32)) dX6_feed_20 (by decide) ?_
    refine J.istore (lv' := [(6, .int (0 : Int32)), (0, .ref t), (1, .int a1), (2, .int a2), (3, .int a3), (4, .int a4), (5, .int a5)]) dX6_feed_21 (by decide) rfl ?_
    obtain ⟨f9, hw⟩ := hw
    exact J.pick [1, 2, 3, 4, 5, 6, 0] rfl (rX6_feed_23 htr (Nat.le_refl _) hT f9 _ _ hw)
  · have hw := hw.2 c15
    refine J.iconst (v := (-1 : Int32)) dX6_feed_18 (by decide) ?_
    exact J.iret rfl dX6_feed_19 ⟨_, rfl, _, rfl, hw⟩
-- VisitingHoursModel.fitsFrom(III)Z
abbrev MX6_fitsFrom : jM := (yX6_fitsFrom, cX6_fitsFrom, 6, some .boolean, [])
def wX6_fitsFrom_30 (t : Nat) (V : Nat → Nat → Int32) (a1 : Int32) (a2 : Int32) (a3 : Int32) (Q : Int32 → Prop) : Nat → Int32 → Int32 → Prop
  | 0, _, _ => False
  | f + 1, x4, x5 =>
    wX6_ofGuest t V a2 (0 : Int32) (fun r36 => (((a3 + r36) ≤ x5 → (jz x4 ∧ Q x4)) ∧ (¬ (a3 + r36) ≤ x5 → ((x4 = 0 → (jz x4 ∧ Q x4)) ∧ (¬ x4 = 0 → wX6_of t V a1 (1 : Int32) (fun r51 => wX6_ofGuest t V a2 (1 : Int32) (fun r57 => wX6_isOf (r51 &&& r57) x5 (fun r63 => (∀ y68 : Int32, y68 = x5 + (1 : Int32) → wX6_fitsFrom_30 t V a1 a2 a3 Q f r63 y68)))))))))
theorem rX6_fitsFrom_30 {G : jG} {l : Launch} {d c n : Nat} (htr : l.stackTraces = false) (hdd : 2 ≤ d) {sh : List jH} {t : Nat} (hT : jReg shX6 sh t) {R : Nat → Nat → Option Nat} {V : Nat → Nat → Int32} {a1 : Int32} {a2 : Int32} {a3 : Int32} {Q : Int32 → Prop} : ∀ (f : Nat) (x4 : Int32) (x5 : Int32), wX6_fitsFrom_30 t V a1 a2 a3 Q f x4 x5 → J G l MX6_fitsFrom d c n 30 [(0, .ref t), (1, .int a1), (2, .int a2), (3, .int a3), (4, .int x4), (5, .int x5)] [] (mk sh V R) (jRd (mk sh V R) Q) jNo := by
  intro f
  induction f with
  | zero =>
    intro x4 x5 hw
    rw [wX6_fitsFrom_30] at hw
    exact hw.elim
  | succ f ih =>
    intro x4 x5 hw
    rw [wX6_fitsFrom_30] at hw
    refine J.iload 5 dX6_fitsFrom_30 rfl ?_
    refine J.iload_n 3 dX6_fitsFrom_32 rfl ?_
    refine J.aload_n 0 dX6_fitsFrom_33 rfl ?_
    refine J.iload_n 2 dX6_fitsFrom_34 rfl ?_
    refine J.iconst (v := (0 : Int32)) dX6_fitsFrom_35 (by decide) ?_
    refine kX6_71 rfl htr hT dX6_fitsFrom_36 (by omega) (Nat.le_of_ble_eq_true rfl) hw (fun r36 hw => ?_)
    refine J.iadd dX6_fitsFrom_39 ?_
    refine J.icmp_ge 74 dX6_fitsFrom_40 (by decide) ⟨fun c40 => ?_, fun c40 => ?_⟩
    · have hw := hw.1 c40
      refine J.iload 4 dX6_fitsFrom_74 rfl ?_
      exact J.zret rfl (jz_nar hw.1) dX6_fitsFrom_76 ⟨rfl, _, rfl, hw.2⟩
    · have hw := hw.2 c40
      refine J.iload 4 dX6_fitsFrom_43 rfl ?_
      refine J.if_eq 74 dX6_fitsFrom_45 (by decide) ⟨fun c45 => ?_, fun c45 => ?_⟩
      · have hw := hw.1 c45
        refine J.iload 4 dX6_fitsFrom_74 rfl ?_
        exact J.zret rfl (jz_nar hw.1) dX6_fitsFrom_76 ⟨rfl, _, rfl, hw.2⟩
      · have hw := hw.2 c45
        refine J.aload_n 0 dX6_fitsFrom_48 rfl ?_
        refine J.iload_n 1 dX6_fitsFrom_49 rfl ?_
        refine J.iconst (v := (1 : Int32)) dX6_fitsFrom_50 (by decide) ?_
        refine kX6_68 rfl htr hT dX6_fitsFrom_51 (by omega) (Nat.le_of_ble_eq_true rfl) hw (fun r51 hw => ?_)
        refine J.aload_n 0 dX6_fitsFrom_54 rfl ?_
        refine J.iload_n 2 dX6_fitsFrom_55 rfl ?_
        refine J.iconst (v := (1 : Int32)) dX6_fitsFrom_56 (by decide) ?_
        refine kX6_71 rfl htr hT dX6_fitsFrom_57 (by omega) (Nat.le_of_ble_eq_true rfl) hw (fun r57 hw => ?_)
        refine J.iand dX6_fitsFrom_60 ?_
        refine J.iload 5 dX6_fitsFrom_61 rfl ?_
        refine kX6_74 rfl htr dX6_fitsFrom_63 (by omega) (Nat.le_of_ble_eq_true rfl) hw (fun r63 hw => ?_)
        refine J.istore (lv' := [(4, .int r63), (0, .ref t), (1, .int a1), (2, .int a2), (3, .int a3), (5, .int x5)]) dX6_fitsFrom_66 (by decide) rfl ?_
        refine J.iincN 5 (K := (1 : Int32)) (lv' := fun y68 => [(5, .int y68), (4, .int r63), (0, .ref t), (1, .int a1), (2, .int a2), (3, .int a3)]) dX6_fitsFrom_68 rfl (by decide) (by decide) (fun _ => rfl) hw (fun y68 hw => ?_)
        refine J.goto 30 dX6_fitsFrom_71 (by decide) ?_
        exact J.pick [2, 3, 4, 5, 1, 0] rfl (ih _ _ hw)
def wX6_fitsFrom (t : Nat) (V : Nat → Nat → Int32) (a1 : Int32) (a2 : Int32) (a3 : Int32) (Q : Int32 → Prop) : Prop :=
  wX6_mayMeet t V a1 a2 (fun r3 => ((r3 = 0 → Q (0 : Int32)) ∧ (¬ r3 = 0 → wX6_ofGuest t V a2 (0 : Int32) (fun r13 => (((a3 + r13) ≤ (8 : Int32) → (∃ f9, wX6_fitsFrom_30 t V a1 a2 a3 Q f9 (1 : Int32) a3)) ∧ (¬ (a3 + r13) ≤ (8 : Int32) → Q (0 : Int32)))))))
theorem mX6_fitsFrom {G : jG} {l : Launch} (htr : l.stackTraces = false) {sh : List jH} {V : Nat → Nat → Int32} {R : Nat → Nat → Option Nat} {t : Nat} (hT : jReg shX6 sh t) {a1 : Int32} {a2 : Int32} {a3 : Int32} {Q : Int32 → Prop} (hw : wX6_fitsFrom t V a1 a2 a3 Q) : JM G l MX6_fitsFrom 2 0 0 [.ref t, .int a1, .int a2, .int a3] (mk sh V R) (jRd (mk sh V R) Q) jNo := by
  refine JM.intro (by decide) rfl htr (Nat.le_of_ble_eq_true rfl) ?_
  show J G l MX6_fitsFrom 2 0 0 0 [(0, .ref t), (1, .int a1), (2, .int a2), (3, .int a3)] [] (mk sh V R) _ _
  unfold wX6_fitsFrom at hw
  refine J.aload_n 0 dX6_fitsFrom_0 rfl ?_
  refine J.iload_n 1 dX6_fitsFrom_1 rfl ?_
  refine J.iload_n 2 dX6_fitsFrom_2 rfl ?_
  refine kX6_78 rfl htr hT dX6_fitsFrom_3 (by omega) (Nat.le_of_ble_eq_true rfl) hw (fun r3 hw => ?_)
  refine J.if_eq 22 dX6_fitsFrom_6 (by decide) ⟨fun c6 => ?_, fun c6 => ?_⟩
  · have hw := hw.1 c6
    refine J.iconst (v := (0 : Int32)) dX6_fitsFrom_22 (by decide) ?_
    exact J.zret rfl rfl dX6_fitsFrom_23 ⟨rfl, _, rfl, hw⟩
  · have hw := hw.2 c6
    refine J.iload_n 3 dX6_fitsFrom_9 rfl ?_
    refine J.aload_n 0 dX6_fitsFrom_10 rfl ?_
    refine J.iload_n 2 dX6_fitsFrom_11 rfl ?_
    refine J.iconst (v := (0 : Int32)) dX6_fitsFrom_12 (by decide) ?_
    refine kX6_71 rfl htr hT dX6_fitsFrom_13 (by omega) (Nat.le_of_ble_eq_true rfl) hw (fun r13 hw => ?_)
    refine J.iadd dX6_fitsFrom_16 ?_
    refine J.bipush (v := (8 : Int32)) dX6_fitsFrom_17 (by decide) ?_
    refine J.icmp_le 24 dX6_fitsFrom_19 (by decide) ⟨fun c19 => ?_, fun c19 => ?_⟩
    · have hw := hw.1 c19
      refine J.iconst (v := (1 : Int32)) dX6_fitsFrom_24 (by decide) ?_
      refine J.istore (lv' := [(4, .int (1 : Int32)), (0, .ref t), (1, .int a1), (2, .int a2), (3, .int a3)]) dX6_fitsFrom_25 (by decide) rfl ?_
      refine J.iload_n 4 dX6_fitsFrom_27 rfl ?_
      refine J.istore (lv' := [(5, .int a3), (4, .int (1 : Int32)), (0, .ref t), (1, .int a1), (2, .int a2), (3, .int a3)]) dX6_fitsFrom_28 (by decide) rfl ?_
      obtain ⟨f9, hw⟩ := hw
      exact J.pick [2, 3, 4, 5, 1, 0] rfl (rX6_fitsFrom_30 htr (Nat.le_refl _) hT f9 _ _ hw)
    · have hw := hw.2 c19
      refine J.iconst (v := (0 : Int32)) dX6_fitsFrom_22 (by decide) ?_
      exact J.zret rfl rfl dX6_fitsFrom_23 ⟨rfl, _, rfl, hw⟩
-- VisitingHoursModel.forlorn()I
abbrev MX6_forlorn : jM := (yX6_forlorn, cX6_forlorn, 6, some .int, [])
def wX6_forlorn_47 (t : Nat) (Q : Int32 → (Nat → Nat → Int32) → Prop) (K9 : (Nat → Nat → Int32) → Int32 → Int32 → Prop) (K33 : (Nat → Nat → Int32) → Int32 → Int32 → Int32 → Int32 → Prop) : Nat → (Nat → Nat → Int32) → Int32 → Int32 → Int32 → Int32 → Int32 → Prop
  | 0, _, _, _, _, _, _ => False
  | f + 1, V, x1, x2, x3, x4, x5 =>
    (((8 : Int32) ≤ x5 → (∀ y82 : Int32, y82 = x4 + (1 : Int32) → K33 V x1 x2 x3 y82)) ∧ (¬ (8 : Int32) ≤ x5 → ((x3 = 0 → (∀ y82 : Int32, y82 = x4 + (1 : Int32) → K33 V x1 x2 x3 y82)) ∧ (¬ x3 = 0 → wX6_canMeet t V x2 x4 x5 (fun r64 => ((¬ r64 = 0 → (∀ y76 : Int32, y76 = x5 + (1 : Int32) → wX6_forlorn_47 t Q K9 K33 f V x1 x2 (0 : Int32) x4 y76)) ∧ (r64 = 0 → (∀ y76 : Int32, y76 = x5 + (1 : Int32) → wX6_forlorn_47 t Q K9 K33 f V x1 x2 (1 : Int32) x4 y76))))))))
theorem rX6_forlorn_47 {G : jG} {l : Launch} {d c n : Nat} (htr : l.stackTraces = false) (hdd : 3 ≤ d) {sh : List jH} {t : Nat} (hT : jReg shX6 sh t) {R : Nat → Nat → Option Nat} {Q : Int32 → (Nat → Nat → Int32) → Prop} {K9 : (Nat → Nat → Int32) → Int32 → Int32 → Prop} {K33 : (Nat → Nat → Int32) → Int32 → Int32 → Int32 → Int32 → Prop} (hK9 : ∀ (V : Nat → Nat → Int32) (x1 : Int32) (x2 : Int32), K9 V x1 x2 → J G l MX6_forlorn d c n 9 [(0, .ref t), (1, .int x1), (2, .int x2)] [] (mk sh V R) (jWr sh R Q) jNo) (hK33 : ∀ (V : Nat → Nat → Int32) (x1 : Int32) (x2 : Int32) (x3 : Int32) (x4 : Int32), K33 V x1 x2 x3 x4 → J G l MX6_forlorn d c n 33 [(0, .ref t), (1, .int x1), (2, .int x2), (3, .int x3), (4, .int x4)] [] (mk sh V R) (jWr sh R Q) jNo) : ∀ (f : Nat) (V : Nat → Nat → Int32) (x1 : Int32) (x2 : Int32) (x3 : Int32) (x4 : Int32) (x5 : Int32), wX6_forlorn_47 t Q K9 K33 f V x1 x2 x3 x4 x5 → J G l MX6_forlorn d c n 47 [(0, .ref t), (1, .int x1), (2, .int x2), (3, .int x3), (4, .int x4), (5, .int x5)] [] (mk sh V R) (jWr sh R Q) jNo := by
  intro f
  induction f with
  | zero =>
    intro V x1 x2 x3 x4 x5 hw
    rw [wX6_forlorn_47] at hw
    exact hw.elim
  | succ f ih =>
    intro V x1 x2 x3 x4 x5 hw
    rw [wX6_forlorn_47] at hw
    refine J.iload 5 dX6_forlorn_47 rfl ?_
    refine J.bipush (v := (8 : Int32)) dX6_forlorn_49 (by decide) ?_
    refine J.icmp_ge 82 dX6_forlorn_51 (by decide) ⟨fun c51 => ?_, fun c51 => ?_⟩
    · have hw := hw.1 c51
      refine J.iincN 4 (K := (1 : Int32)) (lv' := fun y82 => [(4, .int y82), (0, .ref t), (1, .int x1), (2, .int x2), (3, .int x3), (5, .int x5)]) dX6_forlorn_82 rfl (by decide) (by decide) (fun _ => rfl) hw (fun y82 hw => ?_)
      refine J.goto 33 dX6_forlorn_85 (by decide) ?_
      exact J.pick [1, 2, 3, 4, 0] rfl (hK33 _ _ _ _ _ hw)
    · have hw := hw.2 c51
      refine J.iload_n 3 dX6_forlorn_54 rfl ?_
      refine J.if_eq 82 dX6_forlorn_55 (by decide) ⟨fun c55 => ?_, fun c55 => ?_⟩
      · have hw := hw.1 c55
        refine J.iincN 4 (K := (1 : Int32)) (lv' := fun y82 => [(4, .int y82), (0, .ref t), (1, .int x1), (2, .int x2), (3, .int x3), (5, .int x5)]) dX6_forlorn_82 rfl (by decide) (by decide) (fun _ => rfl) hw (fun y82 hw => ?_)
        refine J.goto 33 dX6_forlorn_85 (by decide) ?_
        exact J.pick [1, 2, 3, 4, 0] rfl (hK33 _ _ _ _ _ hw)
      · have hw := hw.2 c55
        refine J.aload_n 0 dX6_forlorn_58 rfl ?_
        refine J.iload_n 2 dX6_forlorn_59 rfl ?_
        refine J.iload 4 dX6_forlorn_60 rfl ?_
        refine J.iload 5 dX6_forlorn_62 rfl ?_
        refine kX6_280 rfl htr hT dX6_forlorn_64 (by omega) (Nat.le_of_ble_eq_true rfl) hw (fun r64 hw => ?_)
        refine J.if_ne 74 dX6_forlorn_67 (by decide) ⟨fun c67 => ?_, fun c67 => ?_⟩
        · have hw := hw.1 c67
          refine J.iconst (v := (0 : Int32)) dX6_forlorn_74 (by decide) ?_
          refine J.istore_n (lv' := [(3, .int (0 : Int32)), (0, .ref t), (1, .int x1), (2, .int x2), (4, .int x4), (5, .int x5)]) dX6_forlorn_75 (by decide) rfl ?_
          refine J.iincN 5 (K := (1 : Int32)) (lv' := fun y76 => [(5, .int y76), (3, .int (0 : Int32)), (0, .ref t), (1, .int x1), (2, .int x2), (4, .int x4)]) dX6_forlorn_76 rfl (by decide) (by decide) (fun _ => rfl) hw (fun y76 hw => ?_)
          refine J.goto 47 dX6_forlorn_79 (by decide) ?_
          exact J.pick [2, 3, 4, 1, 5, 0] rfl (ih _ _ _ _ _ _ hw)
        · have hw := hw.2 c67
          refine J.iconst (v := (1 : Int32)) dX6_forlorn_70 (by decide) ?_
          refine J.goto 75 dX6_forlorn_71 (by decide) ?_
          refine J.istore_n (lv' := [(3, .int (1 : Int32)), (0, .ref t), (1, .int x1), (2, .int x2), (4, .int x4), (5, .int x5)]) dX6_forlorn_75 (by decide) rfl ?_
          refine J.iincN 5 (K := (1 : Int32)) (lv' := fun y76 => [(5, .int y76), (3, .int (1 : Int32)), (0, .ref t), (1, .int x1), (2, .int x2), (4, .int x4)]) dX6_forlorn_76 rfl (by decide) (by decide) (fun _ => rfl) hw (fun y76 hw => ?_)
          refine J.goto 47 dX6_forlorn_79 (by decide) ?_
          exact J.pick [2, 3, 4, 1, 5, 0] rfl (ih _ _ _ _ _ _ hw)
def wX6_forlorn_33 (t : Nat) (Q : Int32 → (Nat → Nat → Int32) → Prop) (K9 : (Nat → Nat → Int32) → Int32 → Int32 → Prop) : Nat → (Nat → Nat → Int32) → Int32 → Int32 → Int32 → Int32 → Prop
  | 0, _, _, _, _, _ => False
  | f + 1, V, x1, x2, x3, x4 =>
    (((V (t + 1) 4) ≤ x4 → ((x3 = 0 → (∀ y101 : Int32, y101 = (x1 ||| (0 : Int32)) → (∀ y102 : Int32, y102 = x2 + (1 : Int32) → K9 V y101 y102))) ∧ (¬ x3 = 0 → (∀ y101 : Int32, y101 = (x1 ||| ((1 : Int32) <<< (x2 &&& 31))) → (∀ y102 : Int32, y102 = x2 + (1 : Int32) → K9 V y101 y102))))) ∧ (¬ (V (t + 1) 4) ≤ x4 → (∃ f9, wX6_forlorn_47 t Q K9 (fun V x1 x2 x3 x4 => wX6_forlorn_33 t Q K9 f V x1 x2 x3 x4) f9 V x1 x2 x3 x4 (0 : Int32))))
theorem rX6_forlorn_33 {G : jG} {l : Launch} {d c n : Nat} (htr : l.stackTraces = false) (hdd : 3 ≤ d) {sh : List jH} {t : Nat} (hT : jReg shX6 sh t) {R : Nat → Nat → Option Nat} {Q : Int32 → (Nat → Nat → Int32) → Prop} {K9 : (Nat → Nat → Int32) → Int32 → Int32 → Prop} (hK9 : ∀ (V : Nat → Nat → Int32) (x1 : Int32) (x2 : Int32), K9 V x1 x2 → J G l MX6_forlorn d c n 9 [(0, .ref t), (1, .int x1), (2, .int x2)] [] (mk sh V R) (jWr sh R Q) jNo) : ∀ (f : Nat) (V : Nat → Nat → Int32) (x1 : Int32) (x2 : Int32) (x3 : Int32) (x4 : Int32), wX6_forlorn_33 t Q K9 f V x1 x2 x3 x4 → J G l MX6_forlorn d c n 33 [(0, .ref t), (1, .int x1), (2, .int x2), (3, .int x3), (4, .int x4)] [] (mk sh V R) (jWr sh R Q) jNo := by
  intro f
  induction f with
  | zero =>
    intro V x1 x2 x3 x4 hw
    rw [wX6_forlorn_33] at hw
    exact hw.elim
  | succ f ih =>
    intro V x1 x2 x3 x4 hw
    rw [wX6_forlorn_33] at hw
    refine J.iload 4 dX6_forlorn_33 rfl ?_
    refine J.aload_n 0 dX6_forlorn_35 rfl ?_
    refine gX6_7 rfl hT dX6_forlorn_36 ?_
    refine J.iconst (v := (4 : Int32)) dX6_forlorn_39 (by decide) ?_
    refine JV.ialdK 4 dX6_forlorn_40 (hT.ge 1) (hT.at 1 rfl) rfl (by decide) (by decide) ?_
    refine J.icmp_ge 88 dX6_forlorn_41 (by decide) ⟨fun c41 => ?_, fun c41 => ?_⟩
    · have hw := hw.1 c41
      refine J.iload_n 1 dX6_forlorn_88 rfl ?_
      refine J.iload_n 3 dX6_forlorn_89 rfl ?_
      refine J.if_eq 99 dX6_forlorn_90 (by decide) ⟨fun c90 => ?_, fun c90 => ?_⟩
      · have hw := hw.1 c90
        refine J.iconst (v := (0 : Int32)) dX6_forlorn_99 (by decide) ?_
        refine J.ior dX6_forlorn_100 ?_
        refine J.nm hw (fun y101 hw => ?_)
        refine J.istore_n (lv' := [(1, .int y101), (0, .ref t), (2, .int x2), (3, .int x3), (4, .int x4)]) dX6_forlorn_101 (by decide) rfl ?_
        refine J.iincN 2 (K := (1 : Int32)) (lv' := fun y102 => [(2, .int y102), (1, .int y101), (0, .ref t), (3, .int x3), (4, .int x4)]) dX6_forlorn_102 rfl (by decide) (by decide) (fun _ => rfl) hw (fun y102 hw => ?_)
        refine J.goto 9 dX6_forlorn_105 (by decide) ?_
        exact J.pick [2, 1, 0] rfl (hK9 _ _ _ hw)
      · have hw := hw.2 c90
        refine J.iconst (v := (1 : Int32)) dX6_forlorn_93 (by decide) ?_
        refine J.iload_n 2 dX6_forlorn_94 rfl ?_
        refine J.ishl dX6_forlorn_95 ?_
        refine J.goto 100 dX6_forlorn_96 (by decide) ?_
        refine J.ior dX6_forlorn_100 ?_
        refine J.nm hw (fun y101 hw => ?_)
        refine J.istore_n (lv' := [(1, .int y101), (0, .ref t), (2, .int x2), (3, .int x3), (4, .int x4)]) dX6_forlorn_101 (by decide) rfl ?_
        refine J.iincN 2 (K := (1 : Int32)) (lv' := fun y102 => [(2, .int y102), (1, .int y101), (0, .ref t), (3, .int x3), (4, .int x4)]) dX6_forlorn_102 rfl (by decide) (by decide) (fun _ => rfl) hw (fun y102 hw => ?_)
        refine J.goto 9 dX6_forlorn_105 (by decide) ?_
        exact J.pick [2, 1, 0] rfl (hK9 _ _ _ hw)
    · have hw := hw.2 c41
      refine J.iconst (v := (0 : Int32)) dX6_forlorn_44 (by decide) ?_
      refine J.istore (lv' := [(5, .int (0 : Int32)), (0, .ref t), (1, .int x1), (2, .int x2), (3, .int x3), (4, .int x4)]) dX6_forlorn_45 (by decide) rfl ?_
      obtain ⟨f9, hw⟩ := hw
      exact J.pick [1, 2, 3, 4, 5, 0] rfl (rX6_forlorn_47 htr hdd hT hK9 ih f9 _ _ _ _ _ _ hw)
def wX6_forlorn_9 (t : Nat) (Q : Int32 → (Nat → Nat → Int32) → Prop) : Nat → (Nat → Nat → Int32) → Int32 → Int32 → Prop
  | 0, _, _, _ => False
  | f + 1, V, x1, x2 =>
    (((V (t + 1) 3) ≤ x2 → Q x1 V) ∧ (¬ (V (t + 1) 3) ≤ x2 → (((V (t + 1) 4) ≤ 0 → Q x1 V) ∧ (¬ (V (t + 1) 4) ≤ 0 → (∃ f9, wX6_forlorn_33 t Q (fun V x1 x2 => wX6_forlorn_9 t Q f V x1 x2) f9 V x1 x2 (1 : Int32) (0 : Int32))))))
theorem rX6_forlorn_9 {G : jG} {l : Launch} {d c n : Nat} (htr : l.stackTraces = false) (hdd : 3 ≤ d) {sh : List jH} {t : Nat} (hT : jReg shX6 sh t) {R : Nat → Nat → Option Nat} {Q : Int32 → (Nat → Nat → Int32) → Prop} : ∀ (f : Nat) (V : Nat → Nat → Int32) (x1 : Int32) (x2 : Int32), wX6_forlorn_9 t Q f V x1 x2 → J G l MX6_forlorn d c n 9 [(0, .ref t), (1, .int x1), (2, .int x2)] [] (mk sh V R) (jWr sh R Q) jNo := by
  intro f
  induction f with
  | zero =>
    intro V x1 x2 hw
    rw [wX6_forlorn_9] at hw
    exact hw.elim
  | succ f ih =>
    intro V x1 x2 hw
    rw [wX6_forlorn_9] at hw
    refine J.iload_n 2 dX6_forlorn_9 rfl ?_
    refine J.aload_n 0 dX6_forlorn_10 rfl ?_
    refine gX6_7 rfl hT dX6_forlorn_11 ?_
    refine J.iconst (v := (3 : Int32)) dX6_forlorn_14 (by decide) ?_
    refine JV.ialdK 3 dX6_forlorn_15 (hT.ge 1) (hT.at 1 rfl) rfl (by decide) (by decide) ?_
    refine J.icmp_ge 108 dX6_forlorn_16 (by decide) ⟨fun c16 => ?_, fun c16 => ?_⟩
    · have hw := hw.1 c16
      refine J.iload_n 1 dX6_forlorn_108 rfl ?_
      exact J.iret rfl dX6_forlorn_109 ⟨_, rfl, _, rfl, hw⟩
    · have hw := hw.2 c16
      refine J.aload_n 0 dX6_forlorn_19 rfl ?_
      refine gX6_7 rfl hT dX6_forlorn_20 ?_
      refine J.iconst (v := (4 : Int32)) dX6_forlorn_23 (by decide) ?_
      refine JV.ialdK 4 dX6_forlorn_24 (hT.ge 1) (hT.at 1 rfl) rfl (by decide) (by decide) ?_
      refine J.if_le 108 dX6_forlorn_25 (by decide) ⟨fun c25 => ?_, fun c25 => ?_⟩
      · have hw := hw.1 c25
        refine J.iload_n 1 dX6_forlorn_108 rfl ?_
        exact J.iret rfl dX6_forlorn_109 ⟨_, rfl, _, rfl, hw⟩
      · have hw := hw.2 c25
        refine J.iconst (v := (1 : Int32)) dX6_forlorn_28 (by decide) ?_
        refine J.istore_n (lv' := [(3, .int (1 : Int32)), (0, .ref t), (1, .int x1), (2, .int x2)]) dX6_forlorn_29 (by decide) rfl ?_
        refine J.iconst (v := (0 : Int32)) dX6_forlorn_30 (by decide) ?_
        refine J.istore (lv' := [(4, .int (0 : Int32)), (3, .int (1 : Int32)), (0, .ref t), (1, .int x1), (2, .int x2)]) dX6_forlorn_31 (by decide) rfl ?_
        obtain ⟨f9, hw⟩ := hw
        exact J.pick [2, 3, 4, 1, 0] rfl (rX6_forlorn_33 htr hdd hT ih f9 _ _ _ _ _ hw)
def wX6_forlorn (t : Nat) (V : Nat → Nat → Int32) (Q : Int32 → (Nat → Nat → Int32) → Prop) : Prop :=
  (∃ f9, wX6_forlorn_9 t Q f9 (vset V t 0 (0 : Int32)) (0 : Int32) (0 : Int32))
theorem mX6_forlorn {G : jG} {l : Launch} (htr : l.stackTraces = false) {sh : List jH} {V : Nat → Nat → Int32} {R : Nat → Nat → Option Nat} {t : Nat} (hT : jReg shX6 sh t) {Q : Int32 → (Nat → Nat → Int32) → Prop} (hw : wX6_forlorn t V Q) : JM G l MX6_forlorn 3 0 0 [.ref t] (mk sh V R) (jWr sh R Q) jNo := by
  refine JM.intro (by decide) rfl htr (Nat.le_of_ble_eq_true rfl) ?_
  show J G l MX6_forlorn 3 0 0 0 [(0, .ref t)] [] (mk sh V R) _ _
  unfold wX6_forlorn at hw
  refine J.aload_n 0 dX6_forlorn_0 rfl ?_
  refine J.iconst (v := (0 : Int32)) dX6_forlorn_1 (by decide) ?_
  refine pX6_54 rfl hT dX6_forlorn_2 ?_
  refine J.iconst (v := (0 : Int32)) dX6_forlorn_5 (by decide) ?_
  refine J.istore_n (lv' := [(1, .int (0 : Int32)), (0, .ref t)]) dX6_forlorn_6 (by decide) rfl ?_
  refine J.iconst (v := (0 : Int32)) dX6_forlorn_7 (by decide) ?_
  refine J.istore_n (lv' := [(2, .int (0 : Int32)), (1, .int (0 : Int32)), (0, .ref t)]) dX6_forlorn_8 (by decide) rfl ?_
  obtain ⟨f9, hw⟩ := hw
  exact J.pick [2, 1, 0] rfl (rX6_forlorn_9 htr (Nat.le_refl _) hT f9 _ _ _ hw)
-- VisitingHoursModel.freeOf(I)I
abbrev MX6_freeOf : jM := (yX6_freeOf, cX6_freeOf, 4, some .int, [])
def wX6_freeOf_9 (t : Nat) (V : Nat → Nat → Int32) (a1 : Int32) (Q : Int32 → Prop) : Nat → Int32 → Int32 → Prop
  | 0, _, _ => False
  | f + 1, x2, x3 =>
    (((8 : Int32) ≤ x3 → Q x2) ∧ (¬ (8 : Int32) ≤ x3 → wX6_bookedIn t V a1 x3 (fun r19 => ((¬ r19 = (-1 : Int32) → (∀ y36 : Int32, y36 = (x2 &&& (((1 : Int32) <<< (x3 &&& 31)) ^^^ (-1 : Int32))) → (∀ y37 : Int32, y37 = x3 + (1 : Int32) → wX6_freeOf_9 t V a1 Q f y36 y37))) ∧ (r19 = (-1 : Int32) → (∀ y36 : Int32, y36 = (x2 &&& x2) → (∀ y37 : Int32, y37 = x3 + (1 : Int32) → wX6_freeOf_9 t V a1 Q f y36 y37)))))))
theorem rX6_freeOf_9 {G : jG} {l : Launch} {d c n : Nat} (htr : l.stackTraces = false) (hdd : 1 ≤ d) {sh : List jH} {t : Nat} (hT : jReg shX6 sh t) {R : Nat → Nat → Option Nat} {V : Nat → Nat → Int32} {a1 : Int32} {Q : Int32 → Prop} : ∀ (f : Nat) (x2 : Int32) (x3 : Int32), wX6_freeOf_9 t V a1 Q f x2 x3 → J G l MX6_freeOf d c n 9 [(0, .ref t), (1, .int a1), (2, .int x2), (3, .int x3)] [] (mk sh V R) (jRd (mk sh V R) Q) jNo := by
  intro f
  induction f with
  | zero =>
    intro x2 x3 hw
    rw [wX6_freeOf_9] at hw
    exact hw.elim
  | succ f ih =>
    intro x2 x3 hw
    rw [wX6_freeOf_9] at hw
    refine J.iload_n 3 dX6_freeOf_9 rfl ?_
    refine J.bipush (v := (8 : Int32)) dX6_freeOf_10 (by decide) ?_
    refine J.icmp_ge 43 dX6_freeOf_12 (by decide) ⟨fun c12 => ?_, fun c12 => ?_⟩
    · have hw := hw.1 c12
      refine J.iload_n 2 dX6_freeOf_43 rfl ?_
      exact J.iret rfl dX6_freeOf_44 ⟨rfl, _, rfl, hw⟩
    · have hw := hw.2 c12
      refine J.iload_n 2 dX6_freeOf_15 rfl ?_
      refine J.aload_n 0 dX6_freeOf_16 rfl ?_
      refine J.iload_n 1 dX6_freeOf_17 rfl ?_
      refine J.iload_n 3 dX6_freeOf_18 rfl ?_
      refine kX6_271 rfl htr hT dX6_freeOf_19 (by omega) (Nat.le_of_ble_eq_true rfl) hw (fun r19 hw => ?_)
      refine J.iconst (v := (-1 : Int32)) dX6_freeOf_22 (by decide) ?_
      refine J.icmp_ne 30 dX6_freeOf_23 (by decide) ⟨fun c23 => ?_, fun c23 => ?_⟩
      · have hw := hw.1 c23
        refine J.iconst (v := (1 : Int32)) dX6_freeOf_30 (by decide) ?_
        refine J.iload_n 3 dX6_freeOf_31 rfl ?_
        refine J.ishl dX6_freeOf_32 ?_
        refine J.iconst (v := (-1 : Int32)) dX6_freeOf_33 (by decide) ?_
        refine J.ixor dX6_freeOf_34 ?_
        refine J.iand dX6_freeOf_35 ?_
        refine J.nm hw (fun y36 hw => ?_)
        refine J.istore_n (lv' := [(2, .int y36), (0, .ref t), (1, .int a1), (3, .int x3)]) dX6_freeOf_36 (by decide) rfl ?_
        refine J.iincN 3 (K := (1 : Int32)) (lv' := fun y37 => [(3, .int y37), (2, .int y36), (0, .ref t), (1, .int a1)]) dX6_freeOf_37 rfl (by decide) (by decide) (fun _ => rfl) hw (fun y37 hw => ?_)
        refine J.goto 9 dX6_freeOf_40 (by decide) ?_
        exact J.pick [2, 3, 1, 0] rfl (ih _ _ hw)
      · have hw := hw.2 c23
        refine J.iload_n 2 dX6_freeOf_26 rfl ?_
        refine J.goto 35 dX6_freeOf_27 (by decide) ?_
        refine J.iand dX6_freeOf_35 ?_
        refine J.nm hw (fun y36 hw => ?_)
        refine J.istore_n (lv' := [(2, .int y36), (0, .ref t), (1, .int a1), (3, .int x3)]) dX6_freeOf_36 (by decide) rfl ?_
        refine J.iincN 3 (K := (1 : Int32)) (lv' := fun y37 => [(3, .int y37), (2, .int y36), (0, .ref t), (1, .int a1)]) dX6_freeOf_37 rfl (by decide) (by decide) (fun _ => rfl) hw (fun y37 hw => ?_)
        refine J.goto 9 dX6_freeOf_40 (by decide) ?_
        exact J.pick [2, 3, 1, 0] rfl (ih _ _ hw)
def wX6_freeOf (t : Nat) (V : Nat → Nat → Int32) (a1 : Int32) (Q : Int32 → Prop) : Prop :=
  wX6_of t V a1 (1 : Int32) (fun r3 => (∃ f9, wX6_freeOf_9 t V a1 Q f9 r3 (0 : Int32)))
theorem mX6_freeOf {G : jG} {l : Launch} (htr : l.stackTraces = false) {sh : List jH} {V : Nat → Nat → Int32} {R : Nat → Nat → Option Nat} {t : Nat} (hT : jReg shX6 sh t) {a1 : Int32} {Q : Int32 → Prop} (hw : wX6_freeOf t V a1 Q) : JM G l MX6_freeOf 1 0 0 [.ref t, .int a1] (mk sh V R) (jRd (mk sh V R) Q) jNo := by
  refine JM.intro (by decide) rfl htr (Nat.le_of_ble_eq_true rfl) ?_
  show J G l MX6_freeOf 1 0 0 0 [(0, .ref t), (1, .int a1)] [] (mk sh V R) _ _
  unfold wX6_freeOf at hw
  refine J.aload_n 0 dX6_freeOf_0 rfl ?_
  refine J.iload_n 1 dX6_freeOf_1 rfl ?_
  refine J.iconst (v := (1 : Int32)) dX6_freeOf_2 (by decide) ?_
  refine kX6_68 rfl htr hT dX6_freeOf_3 (by omega) (Nat.le_of_ble_eq_true rfl) hw (fun r3 hw => ?_)
  refine J.istore_n (lv' := [(2, .int r3), (0, .ref t), (1, .int a1)]) dX6_freeOf_6 (by decide) rfl ?_
  refine J.iconst (v := (0 : Int32)) dX6_freeOf_7 (by decide) ?_
  refine J.istore_n (lv' := [(3, .int (0 : Int32)), (2, .int r3), (0, .ref t), (1, .int a1)]) dX6_freeOf_8 (by decide) rfl ?_
  obtain ⟨f9, hw⟩ := hw
  exact J.pick [2, 3, 1, 0] rfl (rX6_freeOf_9 htr (Nat.le_refl _) hT f9 _ _ hw)
-- VisitingHoursModel.gate(II)I
abbrev MX6_gate : jM := (yX6_gate, cX6_gate, 5, some .int, [])
def wX6_gate_26 (t : Nat) (a1 : Int32) (a2 : Int32) (Q : Int32 → (Nat → Nat → Int32) → Prop) (V : Nat → Nat → Int32) (s1 : Int32) : Prop :=
  ((((vset V t 0 s1) t 0) ≤ 0 → (∀ y45 : Int32, y45 = ((vset V t 0 s1) (t + 1) 8) → wX6_sets t (vset V t 0 s1) (7 : Int32) a1 (fun r50 V50 => Q (((64 : Int32) * r50) + y45) (vset V50 (t + 1) 8 a2)))) ∧ (¬ ((vset V t 0 s1) t 0) ≤ 0 → Q (0 : Int32) (vset V t 0 s1)))
theorem rX6_gate_26 {G : jG} {l : Launch} {d c n : Nat} (htr : l.stackTraces = false) (hdd : 2 ≤ d) {sh : List jH} {t : Nat} (hT : jReg shX6 sh t) {R : Nat → Nat → Option Nat} {a1 : Int32} {a2 : Int32} {Q : Int32 → (Nat → Nat → Int32) → Prop} {V : Nat → Nat → Int32} {s1 : Int32} (hw : wX6_gate_26 t a1 a2 Q V s1) : J G l MX6_gate d c n 26 [(0, .ref t), (1, .int a1), (2, .int a2)] [.int s1, .ref t] (mk sh V R) (jWr sh R Q) jNo := by
  unfold wX6_gate_26 at hw
  refine pX6_54 rfl hT dX6_gate_26 ?_
  refine J.aload_n 0 dX6_gate_29 rfl ?_
  refine gX6_54 rfl hT dX6_gate_30 ?_
  refine J.if_le 38 dX6_gate_33 (by decide) ⟨fun c33 => ?_, fun c33 => ?_⟩
  · have hw := hw.1 c33
    refine J.aload_n 0 dX6_gate_38 rfl ?_
    refine gX6_7 rfl hT dX6_gate_39 ?_
    refine J.bipush (v := (8 : Int32)) dX6_gate_42 (by decide) ?_
    refine JV.ialdK 8 dX6_gate_44 (hT.ge 1) (hT.at 1 rfl) rfl (by decide) (by decide) ?_
    refine J.nm hw (fun y45 hw => ?_)
    refine J.istore_n (lv' := [(3, .int y45), (0, .ref t), (1, .int a1), (2, .int a2)]) dX6_gate_45 (by decide) rfl ?_
    refine J.aload_n 1 dX6_gate_46 rfl ?_
    refine J.bipush (v := (7 : Int32)) dX6_gate_47 (by decide) ?_
    refine J.iload_n 2 dX6_gate_49 rfl ?_
    refine kX6_344 rfl htr hT dX6_gate_50 (by omega) (Nat.le_of_ble_eq_true rfl) hw (fun r50 V50 hw => ?_)
    refine J.istore (lv' := [(4, .int r50), (3, .int y45), (0, .ref t), (1, .int a1), (2, .int a2)]) dX6_gate_53 (by decide) rfl ?_
    refine J.aload_n 2 dX6_gate_55 rfl ?_
    refine gX6_7 rfl hT dX6_gate_56 ?_
    refine J.bipush (v := (8 : Int32)) dX6_gate_59 (by decide) ?_
    refine J.iload_n 4 dX6_gate_61 rfl ?_
    refine JV.iastK 8 dX6_gate_62 (hT.ge 1) (hT.at 1 rfl) rfl (by decide) (by decide) ?_
    refine J.bipush (v := (64 : Int32)) dX6_gate_63 (by decide) ?_
    refine J.iload 0 dX6_gate_65 rfl ?_
    refine J.imul dX6_gate_67 ?_
    refine J.iload_n 1 dX6_gate_68 rfl ?_
    refine J.iadd dX6_gate_69 ?_
    exact J.iret rfl dX6_gate_70 ⟨_, rfl, _, rfl, hw⟩
  · have hw := hw.2 c33
    refine J.iconst (v := (0 : Int32)) dX6_gate_36 (by decide) ?_
    exact J.iret rfl dX6_gate_37 ⟨_, rfl, _, rfl, hw⟩
def wX6_gate_21 (t : Nat) (a1 : Int32) (a2 : Int32) (Q : Int32 → (Nat → Nat → Int32) → Prop) (V : Nat → Nat → Int32) : Prop :=
  wX6_gate_26 t a1 a2 Q V (1 : Int32)
theorem rX6_gate_21 {G : jG} {l : Launch} {d c n : Nat} (htr : l.stackTraces = false) (hdd : 2 ≤ d) {sh : List jH} {t : Nat} (hT : jReg shX6 sh t) {R : Nat → Nat → Option Nat} {a1 : Int32} {a2 : Int32} {Q : Int32 → (Nat → Nat → Int32) → Prop} {V : Nat → Nat → Int32} (hw : wX6_gate_21 t a1 a2 Q V) : J G l MX6_gate d c n 21 [(0, .ref t), (1, .int a1), (2, .int a2)] [.ref t] (mk sh V R) (jWr sh R Q) jNo := by
  unfold wX6_gate_21 at hw
  refine J.iconst (v := (1 : Int32)) dX6_gate_21 (by decide) ?_
  refine J.goto 26 dX6_gate_22 (by decide) ?_
  exact (rX6_gate_26 htr hdd hT hw)
def wX6_gate (t : Nat) (V : Nat → Nat → Int32) (a1 : Int32) (a2 : Int32) (Q : Int32 → (Nat → Nat → Int32) → Prop) : Prop :=
  wX6_isIn a1 (0 : Int32) (63 : Int32) (fun r5 => ((r5 = 0 → wX6_gate_21 t a1 a2 Q V) ∧ (¬ r5 = 0 → wX6_isIn a2 (0 : Int32) (63 : Int32) (fun r15 => ((¬ r15 = 0 → wX6_gate_26 t a1 a2 Q V (0 : Int32)) ∧ (r15 = 0 → wX6_gate_21 t a1 a2 Q V))))))
theorem mX6_gate {G : jG} {l : Launch} (htr : l.stackTraces = false) {sh : List jH} {V : Nat → Nat → Int32} {R : Nat → Nat → Option Nat} {t : Nat} (hT : jReg shX6 sh t) {a1 : Int32} {a2 : Int32} {Q : Int32 → (Nat → Nat → Int32) → Prop} (hw : wX6_gate t V a1 a2 Q) : JM G l MX6_gate 2 0 0 [.ref t, .int a1, .int a2] (mk sh V R) (jWr sh R Q) jNo := by
  refine JM.intro (by decide) rfl htr (Nat.le_of_ble_eq_true rfl) ?_
  show J G l MX6_gate 2 0 0 0 [(0, .ref t), (1, .int a1), (2, .int a2)] [] (mk sh V R) _ _
  unfold wX6_gate at hw
  refine J.aload_n 0 dX6_gate_0 rfl ?_
  refine J.iload_n 1 dX6_gate_1 rfl ?_
  refine J.iconst (v := (0 : Int32)) dX6_gate_2 (by decide) ?_
  refine J.bipush (v := (63 : Int32)) dX6_gate_3 (by decide) ?_
  refine kX6_57 rfl htr dX6_gate_5 (by omega) (Nat.le_of_ble_eq_true rfl) hw (fun r5 hw => ?_)
  refine J.if_eq 21 dX6_gate_8 (by decide) ⟨fun c8 => ?_, fun c8 => ?_⟩
  · have hw := hw.1 c8
    exact (rX6_gate_21 htr (Nat.le_refl _) hT hw)
  · have hw := hw.2 c8
    refine J.iload_n 2 dX6_gate_11 rfl ?_
    refine J.iconst (v := (0 : Int32)) dX6_gate_12 (by decide) ?_
    refine J.bipush (v := (63 : Int32)) dX6_gate_13 (by decide) ?_
    refine kX6_57 rfl htr dX6_gate_15 (by omega) (Nat.le_of_ble_eq_true rfl) hw (fun r15 hw => ?_)
    refine J.if_ne 25 dX6_gate_18 (by decide) ⟨fun c18 => ?_, fun c18 => ?_⟩
    · have hw := hw.1 c18
      refine J.iconst (v := (0 : Int32)) dX6_gate_25 (by decide) ?_
      exact (rX6_gate_26 htr (Nat.le_refl _) hT hw)
    · have hw := hw.2 c18
      exact (rX6_gate_21 htr (Nat.le_refl _) hT hw)
-- VisitingHoursModel.gateHas(II)I
abbrev MX6_gateHas : jM := (yX6_gateHas, cX6_gateHas, 2, some .int, [])
def wX6_gateHas (a1 : Int32) (a2 : Int32) (Q : Int32 → Prop) : Prop :=
  ((¬ a1 = 0 → ((¬ a2 = 0 → Q (-2 : Int32)) ∧ (a2 = 0 → Q (0 : Int32)))) ∧ (a1 = 0 → ((¬ a2 = 0 → Q (3 : Int32)) ∧ (a2 = 0 → Q (-1 : Int32)))))
theorem mX6_gateHas {G : jG} {l : Launch} (htr : l.stackTraces = false) {sh : List jH} {V : Nat → Nat → Int32} {R : Nat → Nat → Option Nat} {a1 : Int32} {a2 : Int32} {Q : Int32 → Prop} (hw : wX6_gateHas a1 a2 Q) : JM G l MX6_gateHas 0 0 0 [.int a1, .int a2] (mk sh V R) (jRd (mk sh V R) Q) jNo := by
  refine JM.intro (by decide) rfl htr (Nat.le_of_ble_eq_true rfl) ?_
  show J G l MX6_gateHas 0 0 0 0 [(0, .int a1), (1, .int a2)] [] (mk sh V R) _ _
  unfold wX6_gateHas at hw
  refine J.iload_n 0 dX6_gateHas_0 rfl ?_
  refine J.if_ne 16 dX6_gateHas_1 (by decide) ⟨fun c1 => ?_, fun c1 => ?_⟩
  · have hw := hw.1 c1
    refine J.iload_n 1 dX6_gateHas_16 rfl ?_
    refine J.if_ne 24 dX6_gateHas_17 (by decide) ⟨fun c17 => ?_, fun c17 => ?_⟩
    · have hw := hw.1 c17
      refine J.bipush (v := (-2 : Int32)) dX6_gateHas_24 (by decide) ?_
      exact J.iret rfl dX6_gateHas_26 ⟨rfl, _, rfl, hw⟩
    · have hw := hw.2 c17
      refine J.iconst (v := (0 : Int32)) dX6_gateHas_20 (by decide) ?_
      refine J.goto 26 dX6_gateHas_21 (by decide) ?_
      exact J.iret rfl dX6_gateHas_26 ⟨rfl, _, rfl, hw⟩
  · have hw := hw.2 c1
    refine J.iload_n 1 dX6_gateHas_4 rfl ?_
    refine J.if_ne 12 dX6_gateHas_5 (by decide) ⟨fun c5 => ?_, fun c5 => ?_⟩
    · have hw := hw.1 c5
      refine J.iconst (v := (3 : Int32)) dX6_gateHas_12 (by decide) ?_
      refine J.goto 26 dX6_gateHas_13 (by decide) ?_
      exact J.iret rfl dX6_gateHas_26 ⟨rfl, _, rfl, hw⟩
    · have hw := hw.2 c5
      refine J.iconst (v := (-1 : Int32)) dX6_gateHas_8 (by decide) ?_
      refine J.goto 26 dX6_gateHas_9 (by decide) ?_
      exact J.iret rfl dX6_gateHas_26 ⟨rfl, _, rfl, hw⟩
-- VisitingHoursModel.guest(II)I
abbrev MX6_guest : jM := (yX6_guest, cX6_guest, 3, some .int, [])
def wX6_guest_27 (t : Nat) (a1 : Int32) (a2 : Int32) (Q : Int32 → (Nat → Nat → Int32) → Prop) (V : Nat → Nat → Int32) (s1 : Int32) : Prop :=
  ((((vset V t 0 s1) t 0) ≤ 0 → (((3 : Int32) ≤ a2 → ((¬ a2 = (3 : Int32) → ((¬ a2 = (4 : Int32) → wX6_ofGuest t (vset V t 0 s1) a1 (2 : Int32) (fun r79 => wX6_passes t (vset V t 0 s1) r79 (fun r82 => ((r82 = 0 → Q (0 : Int32) (vset V t 0 s1)) ∧ (¬ r82 = 0 → Q (1 : Int32) (vset V t 0 s1)))))) ∧ (a2 = (4 : Int32) → wX6_likedOf t (vset V t 0 s1) a1 (fun r69 => Q r69 (vset V t 0 s1))))) ∧ (a2 = (3 : Int32) → wX6_busyOf t (vset V t 0 s1) a1 (fun r58 => Q r58 (vset V t 0 s1))))) ∧ (¬ (3 : Int32) ≤ a2 → wX6_ofGuest t (vset V t 0 s1) a1 a2 (fun r47 => Q r47 (vset V t 0 s1))))) ∧ (¬ ((vset V t 0 s1) t 0) ≤ 0 → Q (0 : Int32) (vset V t 0 s1)))
theorem rX6_guest_27 {G : jG} {l : Launch} {d c n : Nat} (htr : l.stackTraces = false) (hdd : 2 ≤ d) {sh : List jH} {t : Nat} (hT : jReg shX6 sh t) {R : Nat → Nat → Option Nat} {a1 : Int32} {a2 : Int32} {Q : Int32 → (Nat → Nat → Int32) → Prop} {V : Nat → Nat → Int32} {s1 : Int32} (hw : wX6_guest_27 t a1 a2 Q V s1) : J G l MX6_guest d c n 27 [(0, .ref t), (1, .int a1), (2, .int a2)] [.int s1, .ref t] (mk sh V R) (jWr sh R Q) jNo := by
  unfold wX6_guest_27 at hw
  refine pX6_54 rfl hT dX6_guest_27 ?_
  refine J.aload_n 0 dX6_guest_30 rfl ?_
  refine gX6_54 rfl hT dX6_guest_31 ?_
  refine J.if_le 39 dX6_guest_34 (by decide) ⟨fun c34 => ?_, fun c34 => ?_⟩
  · have hw := hw.1 c34
    refine J.iload_n 2 dX6_guest_39 rfl ?_
    refine J.iconst (v := (3 : Int32)) dX6_guest_40 (by decide) ?_
    refine J.icmp_ge 51 dX6_guest_41 (by decide) ⟨fun c41 => ?_, fun c41 => ?_⟩
    · have hw := hw.1 c41
      refine J.iload_n 2 dX6_guest_51 rfl ?_
      refine J.iconst (v := (3 : Int32)) dX6_guest_52 (by decide) ?_
      refine J.icmp_ne 62 dX6_guest_53 (by decide) ⟨fun c53 => ?_, fun c53 => ?_⟩
      · have hw := hw.1 c53
        refine J.iload_n 2 dX6_guest_62 rfl ?_
        refine J.iconst (v := (4 : Int32)) dX6_guest_63 (by decide) ?_
        refine J.icmp_ne 75 dX6_guest_64 (by decide) ⟨fun c64 => ?_, fun c64 => ?_⟩
        · have hw := hw.1 c64
          refine J.aload_n 0 dX6_guest_75 rfl ?_
          refine J.aload_n 0 dX6_guest_76 rfl ?_
          refine J.iload_n 1 dX6_guest_77 rfl ?_
          refine J.iconst (v := (2 : Int32)) dX6_guest_78 (by decide) ?_
          refine kX6_71 rfl htr hT dX6_guest_79 (by omega) (Nat.le_of_ble_eq_true rfl) hw (fun r79 hw => ?_)
          refine kX6_268 rfl htr hT dX6_guest_82 (by omega) (Nat.le_of_ble_eq_true rfl) hw (fun r82 hw => ?_)
          refine J.if_eq 92 dX6_guest_85 (by decide) ⟨fun c85 => ?_, fun c85 => ?_⟩
          · have hw := hw.1 c85
            refine J.iconst (v := (0 : Int32)) dX6_guest_92 (by decide) ?_
            exact J.iret rfl dX6_guest_93 ⟨_, rfl, _, rfl, hw⟩
          · have hw := hw.2 c85
            refine J.iconst (v := (1 : Int32)) dX6_guest_88 (by decide) ?_
            refine J.goto 93 dX6_guest_89 (by decide) ?_
            exact J.iret rfl dX6_guest_93 ⟨_, rfl, _, rfl, hw⟩
        · have hw := hw.2 c64
          refine J.aload_n 0 dX6_guest_67 rfl ?_
          refine J.iload_n 1 dX6_guest_68 rfl ?_
          refine kX6_328 rfl htr hT dX6_guest_69 (by omega) (Nat.le_of_ble_eq_true rfl) hw (fun r69 hw => ?_)
          refine J.goto 93 dX6_guest_72 (by decide) ?_
          exact J.iret rfl dX6_guest_93 ⟨_, rfl, _, rfl, hw⟩
      · have hw := hw.2 c53
        refine J.aload_n 0 dX6_guest_56 rfl ?_
        refine J.iload_n 1 dX6_guest_57 rfl ?_
        refine kX6_325 rfl htr hT dX6_guest_58 (by omega) (Nat.le_of_ble_eq_true rfl) hw (fun r58 hw => ?_)
        exact J.iret rfl dX6_guest_61 ⟨_, rfl, _, rfl, hw⟩
    · have hw := hw.2 c41
      refine J.aload_n 0 dX6_guest_44 rfl ?_
      refine J.iload_n 1 dX6_guest_45 rfl ?_
      refine J.iload_n 2 dX6_guest_46 rfl ?_
      refine kX6_71 rfl htr hT dX6_guest_47 (by omega) (Nat.le_of_ble_eq_true rfl) hw (fun r47 hw => ?_)
      exact J.iret rfl dX6_guest_50 ⟨_, rfl, _, rfl, hw⟩
  · have hw := hw.2 c34
    refine J.iconst (v := (0 : Int32)) dX6_guest_37 (by decide) ?_
    exact J.iret rfl dX6_guest_38 ⟨_, rfl, _, rfl, hw⟩
def wX6_guest (t : Nat) (V : Nat → Nat → Int32) (a1 : Int32) (a2 : Int32) (Q : Int32 → (Nat → Nat → Int32) → Prop) : Prop :=
  wX6_isGuest t V a1 (fun r3 => ((¬ r3 = 0 → wX6_isIn a2 (0 : Int32) (5 : Int32) (fun r16 => ((¬ r16 = 0 → wX6_guest_27 t a1 a2 Q V (0 : Int32)) ∧ (r16 = 0 → wX6_guest_27 t a1 a2 Q V (2 : Int32))))) ∧ (r3 = 0 → wX6_guest_27 t a1 a2 Q V (1 : Int32))))
theorem mX6_guest {G : jG} {l : Launch} (htr : l.stackTraces = false) {sh : List jH} {V : Nat → Nat → Int32} {R : Nat → Nat → Option Nat} {t : Nat} (hT : jReg shX6 sh t) {a1 : Int32} {a2 : Int32} {Q : Int32 → (Nat → Nat → Int32) → Prop} (hw : wX6_guest t V a1 a2 Q) : JM G l MX6_guest 2 0 0 [.ref t, .int a1, .int a2] (mk sh V R) (jWr sh R Q) jNo := by
  refine JM.intro (by decide) rfl htr (Nat.le_of_ble_eq_true rfl) ?_
  show J G l MX6_guest 2 0 0 0 [(0, .ref t), (1, .int a1), (2, .int a2)] [] (mk sh V R) _ _
  unfold wX6_guest at hw
  refine J.aload_n 0 dX6_guest_0 rfl ?_
  refine J.aload_n 0 dX6_guest_1 rfl ?_
  refine J.iload_n 1 dX6_guest_2 rfl ?_
  refine kX6_322 rfl htr hT dX6_guest_3 (by omega) (Nat.le_of_ble_eq_true rfl) hw (fun r3 hw => ?_)
  refine J.if_ne 13 dX6_guest_6 (by decide) ⟨fun c6 => ?_, fun c6 => ?_⟩
  · have hw := hw.1 c6
    refine J.iload_n 2 dX6_guest_13 rfl ?_
    refine J.iconst (v := (0 : Int32)) dX6_guest_14 (by decide) ?_
    refine J.iconst (v := (5 : Int32)) dX6_guest_15 (by decide) ?_
    refine kX6_57 rfl htr dX6_guest_16 (by omega) (Nat.le_of_ble_eq_true rfl) hw (fun r16 hw => ?_)
    refine J.if_ne 26 dX6_guest_19 (by decide) ⟨fun c19 => ?_, fun c19 => ?_⟩
    · have hw := hw.1 c19
      refine J.iconst (v := (0 : Int32)) dX6_guest_26 (by decide) ?_
      exact (rX6_guest_27 htr (Nat.le_refl _) hT hw)
    · have hw := hw.2 c19
      refine J.iconst (v := (2 : Int32)) dX6_guest_22 (by decide) ?_
      refine J.goto 27 dX6_guest_23 (by decide) ?_
      exact (rX6_guest_27 htr (Nat.le_refl _) hT hw)
  · have hw := hw.2 c6
    refine J.iconst (v := (1 : Int32)) dX6_guest_9 (by decide) ?_
    refine J.goto 27 dX6_guest_10 (by decide) ?_
    exact (rX6_guest_27 htr (Nat.le_refl _) hT hw)
-- VisitingHoursModel.wants(IIZ)I
abbrev MX6_wants : jM := (yX6_wants, cX6_wants, 7, some .int, [])
def wX6_wants_58 (t : Nat) (V : Nat → Nat → Int32) (a1 : Int32) (a2 : Int32) (a3 : Int32) (Q : Int32 → Prop) (K6 : Int32 → Int32 → Prop) (x4 : Int32) (x5 : Int32) (s0 : Int32) : Prop :=
  ((s0 = 0 → (∀ y100 : Int32, y100 = x5 + (1 : Int32) → K6 x4 y100)) ∧ (¬ s0 = 0 → ((a3 = 0 → wX6_guestRather t V a1 x5 x4 (fun r90 => ((r90 = 0 → (∀ y100 : Int32, y100 = x5 + (1 : Int32) → K6 x4 y100)) ∧ (¬ r90 = 0 → (∀ y100 : Int32, y100 = x5 + (1 : Int32) → K6 x5 y100))))) ∧ (¬ a3 = 0 → wX6_hostRather t V a1 x5 x4 (fun r75 => ((r75 = 0 → (∀ y100 : Int32, y100 = x5 + (1 : Int32) → K6 x4 y100)) ∧ (¬ r75 = 0 → (∀ y100 : Int32, y100 = x5 + (1 : Int32) → K6 x5 y100))))))))
theorem rX6_wants_58 {G : jG} {l : Launch} {d c n : Nat} (htr : l.stackTraces = false) (hdd : 2 ≤ d) {sh : List jH} {t : Nat} (hT : jReg shX6 sh t) {R : Nat → Nat → Option Nat} {V : Nat → Nat → Int32} {a1 : Int32} {a2 : Int32} {a3 : Int32} {Q : Int32 → Prop} {K6 : Int32 → Int32 → Prop} (hK6 : ∀ (x4 : Int32) (x5 : Int32), K6 x4 x5 → J G l MX6_wants d c n 6 [(0, .ref t), (1, .int a1), (2, .int a2), (3, .int a3), (4, .int x4), (5, .int x5)] [] (mk sh V R) (jRd (mk sh V R) Q) jNo) {x4 : Int32} {x5 : Int32} {s0 : Int32} (hw : wX6_wants_58 t V a1 a2 a3 Q K6 x4 x5 s0) : J G l MX6_wants d c n 58 [(0, .ref t), (1, .int a1), (2, .int a2), (3, .int a3), (4, .int x4), (5, .int x5)] [.int s0] (mk sh V R) (jRd (mk sh V R) Q) jNo := by
  unfold wX6_wants_58 at hw
  refine J.istore (lv' := [(6, .int s0), (0, .ref t), (1, .int a1), (2, .int a2), (3, .int a3), (4, .int x4), (5, .int x5)]) dX6_wants_58 (by decide) rfl ?_
  refine J.iload 0 dX6_wants_60 rfl ?_
  refine J.if_eq 100 dX6_wants_62 (by decide) ⟨fun c62 => ?_, fun c62 => ?_⟩
  · have hw := hw.1 c62
    refine J.iincN 6 (K := (1 : Int32)) (lv' := fun y100 => [(5, .int y100), (6, .int s0), (0, .ref t), (1, .int a1), (2, .int a2), (3, .int a3), (4, .int x4)]) dX6_wants_100 rfl (by decide) (by decide) (fun _ => rfl) hw (fun y100 hw => ?_)
    refine J.goto 6 dX6_wants_103 (by decide) ?_
    exact J.pick [2, 3, 4, 5, 6, 0] rfl (hK6 _ _ hw)
  · have hw := hw.2 c62
    refine J.iload_n 4 dX6_wants_65 rfl ?_
    refine J.if_eq 84 dX6_wants_66 (by decide) ⟨fun c66 => ?_, fun c66 => ?_⟩
    · have hw := hw.1 c66
      refine J.aload_n 1 dX6_wants_84 rfl ?_
      refine J.iload_n 2 dX6_wants_85 rfl ?_
      refine J.iload 6 dX6_wants_86 rfl ?_
      refine J.iload 5 dX6_wants_88 rfl ?_
      refine kX6_362 rfl htr hT dX6_wants_90 (by omega) (Nat.le_of_ble_eq_true rfl) hw (fun r90 hw => ?_)
      refine J.if_eq 100 dX6_wants_93 (by decide) ⟨fun c93 => ?_, fun c93 => ?_⟩
      · have hw := hw.1 c93
        refine J.iincN 6 (K := (1 : Int32)) (lv' := fun y100 => [(5, .int y100), (6, .int s0), (0, .ref t), (1, .int a1), (2, .int a2), (3, .int a3), (4, .int x4)]) dX6_wants_100 rfl (by decide) (by decide) (fun _ => rfl) hw (fun y100 hw => ?_)
        refine J.goto 6 dX6_wants_103 (by decide) ?_
        exact J.pick [2, 3, 4, 5, 6, 0] rfl (hK6 _ _ hw)
      · have hw := hw.2 c93
        refine J.iload 6 dX6_wants_96 rfl ?_
        refine J.istore (lv' := [(4, .int x5), (6, .int s0), (0, .ref t), (1, .int a1), (2, .int a2), (3, .int a3), (5, .int x5)]) dX6_wants_98 (by decide) rfl ?_
        refine J.iincN 6 (K := (1 : Int32)) (lv' := fun y100 => [(5, .int y100), (4, .int x5), (6, .int s0), (0, .ref t), (1, .int a1), (2, .int a2), (3, .int a3)]) dX6_wants_100 rfl (by decide) (by decide) (fun _ => rfl) hw (fun y100 hw => ?_)
        refine J.goto 6 dX6_wants_103 (by decide) ?_
        exact J.pick [3, 4, 5, 6, 1, 0] rfl (hK6 _ _ hw)
    · have hw := hw.2 c66
      refine J.aload_n 1 dX6_wants_69 rfl ?_
      refine J.iload_n 2 dX6_wants_70 rfl ?_
      refine J.iload 6 dX6_wants_71 rfl ?_
      refine J.iload 5 dX6_wants_73 rfl ?_
      refine kX6_359 rfl htr hT dX6_wants_75 (by omega) (Nat.le_of_ble_eq_true rfl) hw (fun r75 hw => ?_)
      refine J.if_eq 100 dX6_wants_78 (by decide) ⟨fun c78 => ?_, fun c78 => ?_⟩
      · have hw := hw.1 c78
        refine J.iincN 6 (K := (1 : Int32)) (lv' := fun y100 => [(5, .int y100), (6, .int s0), (0, .ref t), (1, .int a1), (2, .int a2), (3, .int a3), (4, .int x4)]) dX6_wants_100 rfl (by decide) (by decide) (fun _ => rfl) hw (fun y100 hw => ?_)
        refine J.goto 6 dX6_wants_103 (by decide) ?_
        exact J.pick [2, 3, 4, 5, 6, 0] rfl (hK6 _ _ hw)
      · have hw := hw.2 c78
        refine J.goto 96 dX6_wants_81 (by decide) ?_
        refine J.iload 6 dX6_wants_96 rfl ?_
        refine J.istore (lv' := [(4, .int x5), (6, .int s0), (0, .ref t), (1, .int a1), (2, .int a2), (3, .int a3), (5, .int x5)]) dX6_wants_98 (by decide) rfl ?_
        refine J.iincN 6 (K := (1 : Int32)) (lv' := fun y100 => [(5, .int y100), (4, .int x5), (6, .int s0), (0, .ref t), (1, .int a1), (2, .int a2), (3, .int a3)]) dX6_wants_100 rfl (by decide) (by decide) (fun _ => rfl) hw (fun y100 hw => ?_)
        refine J.goto 6 dX6_wants_103 (by decide) ?_
        exact J.pick [3, 4, 5, 6, 1, 0] rfl (hK6 _ _ hw)
def wX6_wants_57 (t : Nat) (V : Nat → Nat → Int32) (a1 : Int32) (a2 : Int32) (a3 : Int32) (Q : Int32 → Prop) (K6 : Int32 → Int32 → Prop) (x4 : Int32) (x5 : Int32) : Prop :=
  wX6_wants_58 t V a1 a2 a3 Q K6 x4 x5 (0 : Int32)
theorem rX6_wants_57 {G : jG} {l : Launch} {d c n : Nat} (htr : l.stackTraces = false) (hdd : 2 ≤ d) {sh : List jH} {t : Nat} (hT : jReg shX6 sh t) {R : Nat → Nat → Option Nat} {V : Nat → Nat → Int32} {a1 : Int32} {a2 : Int32} {a3 : Int32} {Q : Int32 → Prop} {K6 : Int32 → Int32 → Prop} (hK6 : ∀ (x4 : Int32) (x5 : Int32), K6 x4 x5 → J G l MX6_wants d c n 6 [(0, .ref t), (1, .int a1), (2, .int a2), (3, .int a3), (4, .int x4), (5, .int x5)] [] (mk sh V R) (jRd (mk sh V R) Q) jNo) {x4 : Int32} {x5 : Int32} (hw : wX6_wants_57 t V a1 a2 a3 Q K6 x4 x5) : J G l MX6_wants d c n 57 [(0, .ref t), (1, .int a1), (2, .int a2), (3, .int a3), (4, .int x4), (5, .int x5)] [] (mk sh V R) (jRd (mk sh V R) Q) jNo := by
  unfold wX6_wants_57 at hw
  refine J.iconst (v := (0 : Int32)) dX6_wants_57 (by decide) ?_
  exact (rX6_wants_58 htr hdd hT hK6 hw)
def wX6_wants_53 (t : Nat) (V : Nat → Nat → Int32) (a1 : Int32) (a2 : Int32) (a3 : Int32) (Q : Int32 → Prop) (K6 : Int32 → Int32 → Prop) (x4 : Int32) (x5 : Int32) : Prop :=
  wX6_wants_58 t V a1 a2 a3 Q K6 x4 x5 (1 : Int32)
theorem rX6_wants_53 {G : jG} {l : Launch} {d c n : Nat} (htr : l.stackTraces = false) (hdd : 2 ≤ d) {sh : List jH} {t : Nat} (hT : jReg shX6 sh t) {R : Nat → Nat → Option Nat} {V : Nat → Nat → Int32} {a1 : Int32} {a2 : Int32} {a3 : Int32} {Q : Int32 → Prop} {K6 : Int32 → Int32 → Prop} (hK6 : ∀ (x4 : Int32) (x5 : Int32), K6 x4 x5 → J G l MX6_wants d c n 6 [(0, .ref t), (1, .int a1), (2, .int a2), (3, .int a3), (4, .int x4), (5, .int x5)] [] (mk sh V R) (jRd (mk sh V R) Q) jNo) {x4 : Int32} {x5 : Int32} (hw : wX6_wants_53 t V a1 a2 a3 Q K6 x4 x5) : J G l MX6_wants d c n 53 [(0, .ref t), (1, .int a1), (2, .int a2), (3, .int a3), (4, .int x4), (5, .int x5)] [] (mk sh V R) (jRd (mk sh V R) Q) jNo := by
  unfold wX6_wants_53 at hw
  refine J.iconst (v := (1 : Int32)) dX6_wants_53 (by decide) ?_
  refine J.goto 58 dX6_wants_54 (by decide) ?_
  exact (rX6_wants_58 htr hdd hT hK6 hw)
def wX6_wants_6 (t : Nat) (V : Nat → Nat → Int32) (a1 : Int32) (a2 : Int32) (a3 : Int32) (Q : Int32 → Prop) : Nat → Int32 → Int32 → Prop
  | 0, _, _ => False
  | f + 1, x4, x5 =>
    ((a2 ≤ x5 → Q x4) ∧ (¬ a2 ≤ x5 → (vp_in a1 8 ∧ wX6_isOf (V (t + 9) a1.toNatClampNeg) x5 (fun r20 => ((¬ r20 = 0 → wX6_wants_57 t V a1 a2 a3 Q (fun x4 x5 => wX6_wants_6 t V a1 a2 a3 Q f x4 x5) x4 x5) ∧ (r20 = 0 → ((a3 = 0 → wX6_mayMeet t V x5 a1 (fun r47 => ((r47 = 0 → wX6_wants_57 t V a1 a2 a3 Q (fun x4 x5 => wX6_wants_6 t V a1 a2 a3 Q f x4 x5) x4 x5) ∧ (¬ r47 = 0 → wX6_wants_53 t V a1 a2 a3 Q (fun x4 x5 => wX6_wants_6 t V a1 a2 a3 Q f x4 x5) x4 x5)))) ∧ (¬ a3 = 0 → wX6_mayMeet t V a1 x5 (fun r34 => ((r34 = 0 → wX6_wants_57 t V a1 a2 a3 Q (fun x4 x5 => wX6_wants_6 t V a1 a2 a3 Q f x4 x5) x4 x5) ∧ (¬ r34 = 0 → wX6_wants_53 t V a1 a2 a3 Q (fun x4 x5 => wX6_wants_6 t V a1 a2 a3 Q f x4 x5) x4 x5)))))))))))
theorem rX6_wants_6 {G : jG} {l : Launch} {d c n : Nat} (htr : l.stackTraces = false) (hdd : 2 ≤ d) {sh : List jH} {t : Nat} (hT : jReg shX6 sh t) {R : Nat → Nat → Option Nat} {V : Nat → Nat → Int32} {a1 : Int32} {a2 : Int32} {a3 : Int32} {Q : Int32 → Prop} : ∀ (f : Nat) (x4 : Int32) (x5 : Int32), wX6_wants_6 t V a1 a2 a3 Q f x4 x5 → J G l MX6_wants d c n 6 [(0, .ref t), (1, .int a1), (2, .int a2), (3, .int a3), (4, .int x4), (5, .int x5)] [] (mk sh V R) (jRd (mk sh V R) Q) jNo := by
  intro f
  induction f with
  | zero =>
    intro x4 x5 hw
    rw [wX6_wants_6] at hw
    exact hw.elim
  | succ f ih =>
    intro x4 x5 hw
    rw [wX6_wants_6] at hw
    refine J.iload 5 dX6_wants_6 rfl ?_
    refine J.iload_n 2 dX6_wants_8 rfl ?_
    refine J.icmp_ge 106 dX6_wants_9 (by decide) ⟨fun c9 => ?_, fun c9 => ?_⟩
    · have hw := hw.1 c9
      refine J.iload 4 dX6_wants_106 rfl ?_
      exact J.iret rfl dX6_wants_108 ⟨rfl, _, rfl, hw⟩
    · have hw := hw.2 c9
      refine J.aload_n 0 dX6_wants_12 rfl ?_
      refine gX6_38 rfl hT dX6_wants_13 ?_
      refine J.iload_n 1 dX6_wants_16 rfl ?_
      obtain ⟨h17, hw⟩ := hw
      refine JV.iald dX6_wants_17 (hT.ge 9) (hT.at 9 rfl) h17 ?_
      refine J.iload 5 dX6_wants_18 rfl ?_
      refine kX6_74 rfl htr dX6_wants_20 (by omega) (Nat.le_of_ble_eq_true rfl) hw (fun r20 hw => ?_)
      refine J.if_ne 57 dX6_wants_23 (by decide) ⟨fun c23 => ?_, fun c23 => ?_⟩
      · have hw := hw.1 c23
        exact (rX6_wants_57 htr hdd hT ih hw)
      · have hw := hw.2 c23
        refine J.iload_n 3 dX6_wants_26 rfl ?_
        refine J.if_eq 43 dX6_wants_27 (by decide) ⟨fun c27 => ?_, fun c27 => ?_⟩
        · have hw := hw.1 c27
          refine J.aload_n 0 dX6_wants_43 rfl ?_
          refine J.iload 5 dX6_wants_44 rfl ?_
          refine J.iload_n 1 dX6_wants_46 rfl ?_
          refine kX6_78 rfl htr hT dX6_wants_47 (by omega) (Nat.le_of_ble_eq_true rfl) hw (fun r47 hw => ?_)
          refine J.if_eq 57 dX6_wants_50 (by decide) ⟨fun c50 => ?_, fun c50 => ?_⟩
          · have hw := hw.1 c50
            exact (rX6_wants_57 htr hdd hT ih hw)
          · have hw := hw.2 c50
            exact (rX6_wants_53 htr hdd hT ih hw)
        · have hw := hw.2 c27
          refine J.aload_n 0 dX6_wants_30 rfl ?_
          refine J.iload_n 1 dX6_wants_31 rfl ?_
          refine J.iload 5 dX6_wants_32 rfl ?_
          refine kX6_78 rfl htr hT dX6_wants_34 (by omega) (Nat.le_of_ble_eq_true rfl) hw (fun r34 hw => ?_)
          refine J.if_eq 57 dX6_wants_37 (by decide) ⟨fun c37 => ?_, fun c37 => ?_⟩
          · have hw := hw.1 c37
            exact (rX6_wants_57 htr hdd hT ih hw)
          · have hw := hw.2 c37
            refine J.goto 53 dX6_wants_40 (by decide) ?_
            exact (rX6_wants_53 htr hdd hT ih hw)
def wX6_wants (t : Nat) (V : Nat → Nat → Int32) (a1 : Int32) (a2 : Int32) (a3 : Int32) (Q : Int32 → Prop) : Prop :=
  (∃ f9, wX6_wants_6 t V a1 a2 a3 Q f9 (-1 : Int32) (0 : Int32))
theorem mX6_wants {G : jG} {l : Launch} (htr : l.stackTraces = false) {sh : List jH} {V : Nat → Nat → Int32} {R : Nat → Nat → Option Nat} {t : Nat} (hT : jReg shX6 sh t) {a1 : Int32} {a2 : Int32} {a3 : Int32} {Q : Int32 → Prop} (hw : wX6_wants t V a1 a2 a3 Q) : JM G l MX6_wants 2 0 0 [.ref t, .int a1, .int a2, .int a3] (mk sh V R) (jRd (mk sh V R) Q) jNo := by
  refine JM.intro (by decide) rfl htr (Nat.le_of_ble_eq_true rfl) ?_
  show J G l MX6_wants 2 0 0 0 [(0, .ref t), (1, .int a1), (2, .int a2), (3, .int a3)] [] (mk sh V R) _ _
  unfold wX6_wants at hw
  refine J.iconst (v := (-1 : Int32)) dX6_wants_0 (by decide) ?_
  refine J.istore (lv' := [(4, .int (-1 : Int32)), (0, .ref t), (1, .int a1), (2, .int a2), (3, .int a3)]) dX6_wants_1 (by decide) rfl ?_
  refine J.iconst (v := (0 : Int32)) dX6_wants_3 (by decide) ?_
  refine J.istore (lv' := [(5, .int (0 : Int32)), (4, .int (-1 : Int32)), (0, .ref t), (1, .int a1), (2, .int a2), (3, .int a3)]) dX6_wants_4 (by decide) rfl ?_
  obtain ⟨f9, hw⟩ := hw
  exact J.pick [2, 3, 4, 5, 1, 0] rfl (rX6_wants_6 htr (Nat.le_refl _) hT f9 _ _ hw)
theorem kX6_351 {G : jG} {l : Launch} {M : jM} {d c n pc : Nat} {lv : List (Nat × Value)} {rest : List Value} {post : Option Value → List jC → Prop} {xp : String → List jC → Prop} (hM : M.1.cls = RX6) (htr : l.stackTraces = false) {sh : List jH} {V : Nat → Nat → Int32} {R : Nat → Nat → Option Nat} {t : Nat} (hT : jReg shX6 sh t) {a1 : Int32} {a2 : Int32} {a3 : Int32} {Q : Int32 → Prop} (hd : decode M.2.1 pc = .ok (.invokevirtual 351, 3)) (hdd : 2 + 1 ≤ d) (hw8 : (rest.map fun v => v.category).sum ≤ 8) (hw : wX6_wants t V a1 a2 a3 Q) (kk : ∀ r, Q r → J G l M d c n (pc + 3) lv (.int r :: rest) (mk sh V R) post xp) : J G l M d c n pc lv (.int a3 :: .int a2 :: .int a1 :: .ref t :: rest) (mk sh V R) post xp :=
  J.callV (As := [.int a1, .int a2, .int a3]) (hcw := by rw [hM]; exact lw_V q2577 q2579 qs124 q152 q2580) (mX6_wants htr hT hw) hd rfl ⟨5, _, _, mk_at (hT.at 0 rfl), rfl, rfl, fun _ => rfl⟩ ⟨rfl, by decide, by decide, by show _ = some 3; decide +kernel⟩ hw8 ⟨hdd, by decide⟩ jcc0 (fun r9 g9 h9 => by obtain ⟨rfl, r, rfl, h⟩ := h9; exact kk r h) jNo.x
theorem kX6_355 {G : jG} {l : Launch} {M : jM} {d c n pc : Nat} {lv : List (Nat × Value)} {rest : List Value} {post : Option Value → List jC → Prop} {xp : String → List jC → Prop} (hM : M.1.cls = RX6) (htr : l.stackTraces = false) {sh : List jH} {V : Nat → Nat → Int32} {R : Nat → Nat → Option Nat} {t : Nat} (hT : jReg shX6 sh t) {a1 : Int32} {a2 : Int32} {a3 : Int32} {Q : (Nat → Nat → Int32) → Prop} (hd : decode M.2.1 pc = .ok (.invokevirtual 355, 3)) (hdd : 2 + 1 ≤ d) (hw8 : (rest.map fun v => v.category).sum ≤ 8) (hw : wX6_asked t V a1 a2 a3 Q) (kk : ∀ V', Q V' → J G l M d c n (pc + 3) lv rest (mk sh V' R) post xp) : J G l M d c n pc lv (.int a3 :: .int a2 :: .int a1 :: .ref t :: rest) (mk sh V R) post xp :=
  J.callV (As := [.int a1, .int a2, .int a3]) (hcw := by rw [hM]; exact lw_V q2589 q2591 qs127 q152 q2592) (mX6_asked htr hT hw) hd rfl ⟨5, _, _, mk_at (hT.at 0 rfl), rfl, rfl, fun _ => rfl⟩ ⟨rfl, by decide, by decide, by show _ = some 3; decide +kernel⟩ hw8 ⟨hdd, by decide⟩ jcc0 (fun r9 g9 h9 => by obtain ⟨V9, rfl, rfl, h⟩ := h9; exact kk V9 h) jNo.x
-- VisitingHoursModel.pairs(Z)V
abbrev MX6_pairs : jM := (yX6_pairs, cX6_pairs, 7, none, [])
def wX6_pairs_137 (t : Nat) (a1 : Int32) (Q : (Nat → Nat → Int32) → Prop) (K83 : (Nat → Nat → Int32) → Int32 → Int32 → Int32 → Prop) (K94 : (Nat → Nat → Int32) → Int32 → Int32 → Int32 → Int32 → Prop) (V : Nat → Nat → Int32) (x2 : Int32) (x3 : Int32) (x4 : Int32) (x5 : Int32) (s0 : Int32) : Prop :=
  ((¬ s0 = (-1 : Int32) → wX6_asked t V x5 s0 a1 (fun V154 => (∀ y160 : Int32, y160 = x5 + (1 : Int32) → K94 V154 x2 x3 (1 : Int32) y160))) ∧ (s0 = (-1 : Int32) → (∀ y160 : Int32, y160 = x5 + (1 : Int32) → K94 V x2 x3 x4 y160)))
theorem rX6_pairs_137 {G : jG} {l : Launch} {d c n : Nat} (htr : l.stackTraces = false) (hdd : 3 ≤ d) {sh : List jH} {t : Nat} (hT : jReg shX6 sh t) {R : Nat → Nat → Option Nat} {a1 : Int32} {Q : (Nat → Nat → Int32) → Prop} {K83 : (Nat → Nat → Int32) → Int32 → Int32 → Int32 → Prop} {K94 : (Nat → Nat → Int32) → Int32 → Int32 → Int32 → Int32 → Prop} (hK83 : ∀ (V : Nat → Nat → Int32) (x2 : Int32) (x3 : Int32) (x4 : Int32), K83 V x2 x3 x4 → J G l MX6_pairs d c n 83 [(0, .ref t), (1, .int a1), (2, .int x2), (3, .int x3), (4, .int x4)] [] (mk sh V R) (jWv sh R Q) jNo) (hK94 : ∀ (V : Nat → Nat → Int32) (x2 : Int32) (x3 : Int32) (x4 : Int32) (x5 : Int32), K94 V x2 x3 x4 x5 → J G l MX6_pairs d c n 94 [(0, .ref t), (1, .int a1), (2, .int x2), (3, .int x3), (4, .int x4), (5, .int x5)] [] (mk sh V R) (jWv sh R Q) jNo) {V : Nat → Nat → Int32} {x2 : Int32} {x3 : Int32} {x4 : Int32} {x5 : Int32} {s0 : Int32} (hw : wX6_pairs_137 t a1 Q K83 K94 V x2 x3 x4 x5 s0) : J G l MX6_pairs d c n 137 [(0, .ref t), (1, .int a1), (2, .int x2), (3, .int x3), (4, .int x4), (5, .int x5)] [.int s0] (mk sh V R) (jWv sh R Q) jNo := by
  unfold wX6_pairs_137 at hw
  refine J.istore (lv' := [(6, .int s0), (0, .ref t), (1, .int a1), (2, .int x2), (3, .int x3), (4, .int x4), (5, .int x5)]) dX6_pairs_137 (by decide) rfl ?_
  refine J.iload 0 dX6_pairs_139 rfl ?_
  refine J.iconst (v := (-1 : Int32)) dX6_pairs_141 (by decide) ?_
  refine J.icmp_ne 148 dX6_pairs_142 (by decide) ⟨fun c142 => ?_, fun c142 => ?_⟩
  · have hw := hw.1 c142
    refine J.aload_n 1 dX6_pairs_148 rfl ?_
    refine J.iload 6 dX6_pairs_149 rfl ?_
    refine J.iload 0 dX6_pairs_151 rfl ?_
    refine J.iload_n 2 dX6_pairs_153 rfl ?_
    refine kX6_355 rfl htr hT dX6_pairs_154 (by omega) (Nat.le_of_ble_eq_true rfl) hw (fun V154 hw => ?_)
    refine J.iconst (v := (1 : Int32)) dX6_pairs_157 (by decide) ?_
    refine J.istore (lv' := [(4, .int (1 : Int32)), (6, .int s0), (0, .ref t), (1, .int a1), (2, .int x2), (3, .int x3), (5, .int x5)]) dX6_pairs_158 (by decide) rfl ?_
    refine J.iincN 6 (K := (1 : Int32)) (lv' := fun y160 => [(5, .int y160), (4, .int (1 : Int32)), (6, .int s0), (0, .ref t), (1, .int a1), (2, .int x2), (3, .int x3)]) dX6_pairs_160 rfl (by decide) (by decide) (fun _ => rfl) hw (fun y160 hw => ?_)
    refine J.goto 94 dX6_pairs_163 (by decide) ?_
    exact J.pick [3, 4, 5, 6, 1, 0] rfl (hK94 _ _ _ _ _ hw)
  · have hw := hw.2 c142
    refine J.goto 160 dX6_pairs_145 (by decide) ?_
    refine J.iincN 6 (K := (1 : Int32)) (lv' := fun y160 => [(5, .int y160), (6, .int s0), (0, .ref t), (1, .int a1), (2, .int x2), (3, .int x3), (4, .int x4)]) dX6_pairs_160 rfl (by decide) (by decide) (fun _ => rfl) hw (fun y160 hw => ?_)
    refine J.goto 94 dX6_pairs_163 (by decide) ?_
    exact J.pick [2, 3, 4, 5, 6, 0] rfl (hK94 _ _ _ _ _ hw)
def wX6_pairs_121 (t : Nat) (a1 : Int32) (Q : (Nat → Nat → Int32) → Prop) (K83 : (Nat → Nat → Int32) → Int32 → Int32 → Int32 → Prop) (K94 : (Nat → Nat → Int32) → Int32 → Int32 → Int32 → Int32 → Prop) (V : Nat → Nat → Int32) (x2 : Int32) (x3 : Int32) (x4 : Int32) (x5 : Int32) (s0 : Int32) : Prop :=
  ((¬ s0 = (-1 : Int32) → wX6_pairs_137 t a1 Q K83 K94 V x2 x3 x4 x5 (-1 : Int32)) ∧ (s0 = (-1 : Int32) → wX6_wants t V x5 x3 a1 (fun r130 => wX6_pairs_137 t a1 Q K83 K94 V x2 x3 x4 x5 r130)))
theorem rX6_pairs_121 {G : jG} {l : Launch} {d c n : Nat} (htr : l.stackTraces = false) (hdd : 3 ≤ d) {sh : List jH} {t : Nat} (hT : jReg shX6 sh t) {R : Nat → Nat → Option Nat} {a1 : Int32} {Q : (Nat → Nat → Int32) → Prop} {K83 : (Nat → Nat → Int32) → Int32 → Int32 → Int32 → Prop} {K94 : (Nat → Nat → Int32) → Int32 → Int32 → Int32 → Int32 → Prop} (hK83 : ∀ (V : Nat → Nat → Int32) (x2 : Int32) (x3 : Int32) (x4 : Int32), K83 V x2 x3 x4 → J G l MX6_pairs d c n 83 [(0, .ref t), (1, .int a1), (2, .int x2), (3, .int x3), (4, .int x4)] [] (mk sh V R) (jWv sh R Q) jNo) (hK94 : ∀ (V : Nat → Nat → Int32) (x2 : Int32) (x3 : Int32) (x4 : Int32) (x5 : Int32), K94 V x2 x3 x4 x5 → J G l MX6_pairs d c n 94 [(0, .ref t), (1, .int a1), (2, .int x2), (3, .int x3), (4, .int x4), (5, .int x5)] [] (mk sh V R) (jWv sh R Q) jNo) {V : Nat → Nat → Int32} {x2 : Int32} {x3 : Int32} {x4 : Int32} {x5 : Int32} {s0 : Int32} (hw : wX6_pairs_121 t a1 Q K83 K94 V x2 x3 x4 x5 s0) : J G l MX6_pairs d c n 121 [(0, .ref t), (1, .int a1), (2, .int x2), (3, .int x3), (4, .int x4), (5, .int x5)] [.int s0] (mk sh V R) (jWv sh R Q) jNo := by
  unfold wX6_pairs_121 at hw
  refine J.iconst (v := (-1 : Int32)) dX6_pairs_121 (by decide) ?_
  refine J.icmp_ne 136 dX6_pairs_122 (by decide) ⟨fun c122 => ?_, fun c122 => ?_⟩
  · have hw := hw.1 c122
    refine J.iconst (v := (-1 : Int32)) dX6_pairs_136 (by decide) ?_
    exact (rX6_pairs_137 htr hdd hT hK83 hK94 hw)
  · have hw := hw.2 c122
    refine J.aload_n 0 dX6_pairs_125 rfl ?_
    refine J.iload 5 dX6_pairs_126 rfl ?_
    refine J.iload_n 3 dX6_pairs_128 rfl ?_
    refine J.iload_n 1 dX6_pairs_129 rfl ?_
    refine kX6_351 rfl htr hT dX6_pairs_130 (by omega) (Nat.le_of_ble_eq_true rfl) hw (fun r130 hw => ?_)
    refine J.goto 137 dX6_pairs_133 (by decide) ?_
    exact (rX6_pairs_137 htr hdd hT hK83 hK94 hw)
def wX6_pairs_94 (t : Nat) (a1 : Int32) (Q : (Nat → Nat → Int32) → Prop) (K83 : (Nat → Nat → Int32) → Int32 → Int32 → Int32 → Prop) : Nat → (Nat → Nat → Int32) → Int32 → Int32 → Int32 → Int32 → Prop
  | 0, _, _, _, _, _ => False
  | f + 1, V, x2, x3, x4, x5 =>
    ((x2 ≤ x5 → K83 V x2 x3 x4) ∧ (¬ x2 ≤ x5 → ((a1 = 0 → (vp_in x5 8 ∧ wX6_pairs_121 t a1 Q K83 (fun V x2 x3 x4 x5 => wX6_pairs_94 t a1 Q K83 f V x2 x3 x4 x5) V x2 x3 x4 x5 (V (t + 8) x5.toNatClampNeg))) ∧ (¬ a1 = 0 → (vp_in x5 8 ∧ wX6_pairs_121 t a1 Q K83 (fun V x2 x3 x4 x5 => wX6_pairs_94 t a1 Q K83 f V x2 x3 x4 x5) V x2 x3 x4 x5 (V (t + 7) x5.toNatClampNeg))))))
theorem rX6_pairs_94 {G : jG} {l : Launch} {d c n : Nat} (htr : l.stackTraces = false) (hdd : 3 ≤ d) {sh : List jH} {t : Nat} (hT : jReg shX6 sh t) {R : Nat → Nat → Option Nat} {a1 : Int32} {Q : (Nat → Nat → Int32) → Prop} {K83 : (Nat → Nat → Int32) → Int32 → Int32 → Int32 → Prop} (hK83 : ∀ (V : Nat → Nat → Int32) (x2 : Int32) (x3 : Int32) (x4 : Int32), K83 V x2 x3 x4 → J G l MX6_pairs d c n 83 [(0, .ref t), (1, .int a1), (2, .int x2), (3, .int x3), (4, .int x4)] [] (mk sh V R) (jWv sh R Q) jNo) : ∀ (f : Nat) (V : Nat → Nat → Int32) (x2 : Int32) (x3 : Int32) (x4 : Int32) (x5 : Int32), wX6_pairs_94 t a1 Q K83 f V x2 x3 x4 x5 → J G l MX6_pairs d c n 94 [(0, .ref t), (1, .int a1), (2, .int x2), (3, .int x3), (4, .int x4), (5, .int x5)] [] (mk sh V R) (jWv sh R Q) jNo := by
  intro f
  induction f with
  | zero =>
    intro V x2 x3 x4 x5 hw
    rw [wX6_pairs_94] at hw
    exact hw.elim
  | succ f ih =>
    intro V x2 x3 x4 x5 hw
    rw [wX6_pairs_94] at hw
    refine J.iload 5 dX6_pairs_94 rfl ?_
    refine J.iload_n 2 dX6_pairs_96 rfl ?_
    refine J.icmp_ge 166 dX6_pairs_97 (by decide) ⟨fun c97 => ?_, fun c97 => ?_⟩
    · have hw := hw.1 c97
      refine J.goto 83 dX6_pairs_166 (by decide) ?_
      exact J.pick [0, 1, 2, 3, 4] rfl (hK83 _ _ _ _ hw)
    · have hw := hw.2 c97
      refine J.iload_n 1 dX6_pairs_100 rfl ?_
      refine J.if_eq 114 dX6_pairs_101 (by decide) ⟨fun c101 => ?_, fun c101 => ?_⟩
      · have hw := hw.1 c101
        refine J.aload_n 0 dX6_pairs_114 rfl ?_
        refine gX6_35 rfl hT dX6_pairs_115 ?_
        refine J.iload 5 dX6_pairs_118 rfl ?_
        obtain ⟨h120, hw⟩ := hw
        refine JV.iald dX6_pairs_120 (hT.ge 8) (hT.at 8 rfl) h120 ?_
        exact (rX6_pairs_121 htr hdd hT hK83 ih hw)
      · have hw := hw.2 c101
        refine J.aload_n 0 dX6_pairs_104 rfl ?_
        refine gX6_32 rfl hT dX6_pairs_105 ?_
        refine J.iload 5 dX6_pairs_108 rfl ?_
        obtain ⟨h110, hw⟩ := hw
        refine JV.iald dX6_pairs_110 (hT.ge 7) (hT.at 7 rfl) h110 ?_
        refine J.goto 121 dX6_pairs_111 (by decide) ?_
        exact (rX6_pairs_121 htr hdd hT hK83 ih hw)
def wX6_pairs_83 (t : Nat) (a1 : Int32) (Q : (Nat → Nat → Int32) → Prop) : Nat → (Nat → Nat → Int32) → Int32 → Int32 → Int32 → Prop
  | 0, _, _, _, _ => False
  | f + 1, V, x2, x3, x4 =>
    ((x4 = 0 → Q V) ∧ (¬ x4 = 0 → (∃ f9, wX6_pairs_94 t a1 Q (fun V x2 x3 x4 => wX6_pairs_83 t a1 Q f V x2 x3 x4) f9 V x2 x3 (0 : Int32) (0 : Int32))))
theorem rX6_pairs_83 {G : jG} {l : Launch} {d c n : Nat} (htr : l.stackTraces = false) (hdd : 3 ≤ d) {sh : List jH} {t : Nat} (hT : jReg shX6 sh t) {R : Nat → Nat → Option Nat} {a1 : Int32} {Q : (Nat → Nat → Int32) → Prop} : ∀ (f : Nat) (V : Nat → Nat → Int32) (x2 : Int32) (x3 : Int32) (x4 : Int32), wX6_pairs_83 t a1 Q f V x2 x3 x4 → J G l MX6_pairs d c n 83 [(0, .ref t), (1, .int a1), (2, .int x2), (3, .int x3), (4, .int x4)] [] (mk sh V R) (jWv sh R Q) jNo := by
  intro f
  induction f with
  | zero =>
    intro V x2 x3 x4 hw
    rw [wX6_pairs_83] at hw
    exact hw.elim
  | succ f ih =>
    intro V x2 x3 x4 hw
    rw [wX6_pairs_83] at hw
    refine J.iload 4 dX6_pairs_83 rfl ?_
    refine J.if_eq 169 dX6_pairs_85 (by decide) ⟨fun c85 => ?_, fun c85 => ?_⟩
    · have hw := hw.1 c85
      exact J.vret rfl dX6_pairs_169 ⟨_, rfl, rfl, hw⟩
    · have hw := hw.2 c85
      refine J.iconst (v := (0 : Int32)) dX6_pairs_88 (by decide) ?_
      refine J.istore (lv' := [(4, .int (0 : Int32)), (0, .ref t), (1, .int a1), (2, .int x2), (3, .int x3)]) dX6_pairs_89 (by decide) rfl ?_
      refine J.iconst (v := (0 : Int32)) dX6_pairs_91 (by decide) ?_
      refine J.istore (lv' := [(5, .int (0 : Int32)), (4, .int (0 : Int32)), (0, .ref t), (1, .int a1), (2, .int x2), (3, .int x3)]) dX6_pairs_92 (by decide) rfl ?_
      obtain ⟨f9, hw⟩ := hw
      exact J.pick [2, 3, 4, 5, 1, 0] rfl (rX6_pairs_94 htr hdd hT ih f9 _ _ _ _ _ hw)
def wX6_pairs_43 (t : Nat) (a1 : Int32) (Q : (Nat → Nat → Int32) → Prop) : Nat → (Nat → Nat → Int32) → Int32 → Int32 → Int32 → Prop
  | 0, _, _, _, _ => False
  | f + 1, V, x2, x3, x4 =>
    (((8 : Int32) ≤ x4 → (∃ f9, wX6_pairs_83 t a1 Q f9 V x2 x3 (1 : Int32))) ∧ (¬ (8 : Int32) ≤ x4 → (vp_in x4 8 ∧ (vp_in x4 8 ∧ (vp_in x4 8 ∧ (∀ y74 : Int32, y74 = x4 + (1 : Int32) → wX6_pairs_43 t a1 Q f (vset (vset (vset V (t + 7) x4.toNatClampNeg (-1 : Int32)) (t + 8) x4.toNatClampNeg (-1 : Int32)) (t + 9) x4.toNatClampNeg (0 : Int32)) x2 x3 y74))))))
theorem rX6_pairs_43 {G : jG} {l : Launch} {d c n : Nat} (htr : l.stackTraces = false) (hdd : 3 ≤ d) {sh : List jH} {t : Nat} (hT : jReg shX6 sh t) {R : Nat → Nat → Option Nat} {a1 : Int32} {Q : (Nat → Nat → Int32) → Prop} : ∀ (f : Nat) (V : Nat → Nat → Int32) (x2 : Int32) (x3 : Int32) (x4 : Int32), wX6_pairs_43 t a1 Q f V x2 x3 x4 → J G l MX6_pairs d c n 43 [(0, .ref t), (1, .int a1), (2, .int x2), (3, .int x3), (4, .int x4)] [] (mk sh V R) (jWv sh R Q) jNo := by
  intro f
  induction f with
  | zero =>
    intro V x2 x3 x4 hw
    rw [wX6_pairs_43] at hw
    exact hw.elim
  | succ f ih =>
    intro V x2 x3 x4 hw
    rw [wX6_pairs_43] at hw
    refine J.iload 4 dX6_pairs_43 rfl ?_
    refine J.bipush (v := (8 : Int32)) dX6_pairs_45 (by decide) ?_
    refine J.icmp_ge 80 dX6_pairs_47 (by decide) ⟨fun c47 => ?_, fun c47 => ?_⟩
    · have hw := hw.1 c47
      refine J.iconst (v := (1 : Int32)) dX6_pairs_80 (by decide) ?_
      refine J.istore (lv' := [(4, .int (1 : Int32)), (0, .ref t), (1, .int a1), (2, .int x2), (3, .int x3)]) dX6_pairs_81 (by decide) rfl ?_
      obtain ⟨f9, hw⟩ := hw
      exact J.pick [1, 2, 3, 4, 0] rfl (rX6_pairs_83 htr hdd hT f9 _ _ _ _ hw)
    · have hw := hw.2 c47
      refine J.aload_n 0 dX6_pairs_50 rfl ?_
      refine gX6_32 rfl hT dX6_pairs_51 ?_
      refine J.iload 4 dX6_pairs_54 rfl ?_
      refine J.iconst (v := (-1 : Int32)) dX6_pairs_56 (by decide) ?_
      obtain ⟨h57, hw⟩ := hw
      refine JV.iast dX6_pairs_57 (hT.ge 7) (hT.at 7 rfl) h57 ?_
      refine J.aload_n 0 dX6_pairs_58 rfl ?_
      refine gX6_35 rfl hT dX6_pairs_59 ?_
      refine J.iload 4 dX6_pairs_62 rfl ?_
      refine J.iconst (v := (-1 : Int32)) dX6_pairs_64 (by decide) ?_
      obtain ⟨h65, hw⟩ := hw
      refine JV.iast dX6_pairs_65 (hT.ge 8) (hT.at 8 rfl) h65 ?_
      refine J.aload_n 0 dX6_pairs_66 rfl ?_
      refine gX6_38 rfl hT dX6_pairs_67 ?_
      refine J.iload 4 dX6_pairs_70 rfl ?_
      refine J.iconst (v := (0 : Int32)) dX6_pairs_72 (by decide) ?_
      obtain ⟨h73, hw⟩ := hw
      refine JV.iast dX6_pairs_73 (hT.ge 9) (hT.at 9 rfl) h73 ?_
      refine J.iincN 4 (K := (1 : Int32)) (lv' := fun y74 => [(4, .int y74), (0, .ref t), (1, .int a1), (2, .int x2), (3, .int x3)]) dX6_pairs_74 rfl (by decide) (by decide) (fun _ => rfl) hw (fun y74 hw => ?_)
      refine J.goto 43 dX6_pairs_77 (by decide) ?_
      exact J.pick [1, 2, 3, 4, 0] rfl (ih _ _ _ _ hw)
def wX6_pairs_19 (t : Nat) (a1 : Int32) (Q : (Nat → Nat → Int32) → Prop) (V : Nat → Nat → Int32) (s0 : Int32) : Prop :=
  ((a1 = 0 → (∀ y39 : Int32, y39 = (V (t + 1) 3) → (∃ f9, wX6_pairs_43 t a1 Q f9 V s0 y39 (0 : Int32)))) ∧ (¬ a1 = 0 → (∀ y39 : Int32, y39 = (V (t + 1) 4) → (∃ f9, wX6_pairs_43 t a1 Q f9 V s0 y39 (0 : Int32)))))
theorem rX6_pairs_19 {G : jG} {l : Launch} {d c n : Nat} (htr : l.stackTraces = false) (hdd : 3 ≤ d) {sh : List jH} {t : Nat} (hT : jReg shX6 sh t) {R : Nat → Nat → Option Nat} {a1 : Int32} {Q : (Nat → Nat → Int32) → Prop} {V : Nat → Nat → Int32} {s0 : Int32} (hw : wX6_pairs_19 t a1 Q V s0) : J G l MX6_pairs d c n 19 [(0, .ref t), (1, .int a1)] [.int s0] (mk sh V R) (jWv sh R Q) jNo := by
  unfold wX6_pairs_19 at hw
  refine J.istore_n (lv' := [(2, .int s0), (0, .ref t), (1, .int a1)]) dX6_pairs_19 (by decide) rfl ?_
  refine J.iload_n 2 dX6_pairs_20 rfl ?_
  refine J.if_eq 33 dX6_pairs_21 (by decide) ⟨fun c21 => ?_, fun c21 => ?_⟩
  · have hw := hw.1 c21
    refine J.aload_n 1 dX6_pairs_33 rfl ?_
    refine gX6_7 rfl hT dX6_pairs_34 ?_
    refine J.iconst (v := (3 : Int32)) dX6_pairs_37 (by decide) ?_
    refine JV.ialdK 3 dX6_pairs_38 (hT.ge 1) (hT.at 1 rfl) rfl (by decide) (by decide) ?_
    refine J.nm hw (fun y39 hw => ?_)
    refine J.istore_n (lv' := [(3, .int y39), (2, .int s0), (0, .ref t), (1, .int a1)]) dX6_pairs_39 (by decide) rfl ?_
    refine J.iconst (v := (0 : Int32)) dX6_pairs_40 (by decide) ?_
    refine J.istore (lv' := [(4, .int (0 : Int32)), (3, .int y39), (2, .int s0), (0, .ref t), (1, .int a1)]) dX6_pairs_41 (by decide) rfl ?_
    obtain ⟨f9, hw⟩ := hw
    exact J.pick [3, 4, 2, 1, 0] rfl (rX6_pairs_43 htr hdd hT f9 _ _ _ _ hw)
  · have hw := hw.2 c21
    refine J.aload_n 1 dX6_pairs_24 rfl ?_
    refine gX6_7 rfl hT dX6_pairs_25 ?_
    refine J.iconst (v := (4 : Int32)) dX6_pairs_28 (by decide) ?_
    refine JV.ialdK 4 dX6_pairs_29 (hT.ge 1) (hT.at 1 rfl) rfl (by decide) (by decide) ?_
    refine J.goto 39 dX6_pairs_30 (by decide) ?_
    refine J.nm hw (fun y39 hw => ?_)
    refine J.istore_n (lv' := [(3, .int y39), (2, .int s0), (0, .ref t), (1, .int a1)]) dX6_pairs_39 (by decide) rfl ?_
    refine J.iconst (v := (0 : Int32)) dX6_pairs_40 (by decide) ?_
    refine J.istore (lv' := [(4, .int (0 : Int32)), (3, .int y39), (2, .int s0), (0, .ref t), (1, .int a1)]) dX6_pairs_41 (by decide) rfl ?_
    obtain ⟨f9, hw⟩ := hw
    exact J.pick [3, 4, 2, 1, 0] rfl (rX6_pairs_43 htr hdd hT f9 _ _ _ _ hw)
def wX6_pairs (t : Nat) (V : Nat → Nat → Int32) (a1 : Int32) (Q : (Nat → Nat → Int32) → Prop) : Prop :=
  ((a1 = 0 → wX6_pairs_19 t a1 Q V (V (t + 1) 4)) ∧ (¬ a1 = 0 → wX6_pairs_19 t a1 Q V (V (t + 1) 3)))
theorem mX6_pairs {G : jG} {l : Launch} (htr : l.stackTraces = false) {sh : List jH} {V : Nat → Nat → Int32} {R : Nat → Nat → Option Nat} {t : Nat} (hT : jReg shX6 sh t) {a1 : Int32} {Q : (Nat → Nat → Int32) → Prop} (hw : wX6_pairs t V a1 Q) : JM G l MX6_pairs 3 0 0 [.ref t, .int a1] (mk sh V R) (jWv sh R Q) jNo := by
  refine JM.intro (by decide) rfl htr (Nat.le_of_ble_eq_true rfl) ?_
  show J G l MX6_pairs 3 0 0 0 [(0, .ref t), (1, .int a1)] [] (mk sh V R) _ _
  unfold wX6_pairs at hw
  refine J.iload_n 1 dX6_pairs_0 rfl ?_
  refine J.if_eq 13 dX6_pairs_1 (by decide) ⟨fun c1 => ?_, fun c1 => ?_⟩
  · have hw := hw.1 c1
    refine J.aload_n 0 dX6_pairs_13 rfl ?_
    refine gX6_7 rfl hT dX6_pairs_14 ?_
    refine J.iconst (v := (4 : Int32)) dX6_pairs_17 (by decide) ?_
    refine JV.ialdK 4 dX6_pairs_18 (hT.ge 1) (hT.at 1 rfl) rfl (by decide) (by decide) ?_
    exact (rX6_pairs_19 htr (Nat.le_refl _) hT hw)
  · have hw := hw.2 c1
    refine J.aload_n 0 dX6_pairs_4 rfl ?_
    refine gX6_7 rfl hT dX6_pairs_5 ?_
    refine J.iconst (v := (3 : Int32)) dX6_pairs_8 (by decide) ?_
    refine JV.ialdK 3 dX6_pairs_9 (hT.ge 1) (hT.at 1 rfl) rfl (by decide) (by decide) ?_
    refine J.goto 19 dX6_pairs_10 (by decide) ?_
    exact (rX6_pairs_19 htr (Nat.le_refl _) hT hw)
theorem kX6_365 {G : jG} {l : Launch} {M : jM} {d c n pc : Nat} {lv : List (Nat × Value)} {rest : List Value} {post : Option Value → List jC → Prop} {xp : String → List jC → Prop} (hM : M.1.cls = RX6) (htr : l.stackTraces = false) {sh : List jH} {V : Nat → Nat → Int32} {R : Nat → Nat → Option Nat} {t : Nat} (hT : jReg shX6 sh t) {a1 : Int32} {Q : (Nat → Nat → Int32) → Prop} (hd : decode M.2.1 pc = .ok (.invokevirtual 365, 3)) (hdd : 3 + 1 ≤ d) (hw8 : (rest.map fun v => v.category).sum ≤ 8) (hw : wX6_pairs t V a1 Q) (kk : ∀ V', Q V' → J G l M d c n (pc + 3) lv rest (mk sh V' R) post xp) : J G l M d c n pc lv (.int a1 :: .ref t :: rest) (mk sh V R) post xp :=
  J.callV (As := [.int a1]) (hcw := by rw [hM]; exact lw_V q2573 q2575 qs123 q152 q2576) (mX6_pairs htr hT hw) hd rfl ⟨5, _, _, mk_at (hT.at 0 rfl), rfl, rfl, fun _ => rfl⟩ ⟨rfl, by decide, by decide, by show _ = some 1; decide +kernel⟩ hw8 ⟨hdd, by decide⟩ jcc0 (fun r9 g9 h9 => by obtain ⟨V9, rfl, rfl, h⟩ := h9; exact kk V9 h) jNo.x
-- VisitingHoursModel.guestBest(I)I
abbrev MX6_guestBest : jM := (yX6_guestBest, cX6_guestBest, 2, some .int, [])
def wX6_guestBest_14 (t : Nat) (a1 : Int32) (Q : Int32 → (Nat → Nat → Int32) → Prop) (V : Nat → Nat → Int32) (s1 : Int32) : Prop :=
  ((((vset V t 0 s1) t 0) ≤ 0 → wX6_pairs t (vset V t 0 s1) (0 : Int32) (fun V28 => (vp_in a1 8 ∧ Q (V28 (t + 7) a1.toNatClampNeg) V28))) ∧ (¬ ((vset V t 0 s1) t 0) ≤ 0 → Q (0 : Int32) (vset V t 0 s1)))
theorem rX6_guestBest_14 {G : jG} {l : Launch} {d c n : Nat} (htr : l.stackTraces = false) (hdd : 4 ≤ d) {sh : List jH} {t : Nat} (hT : jReg shX6 sh t) {R : Nat → Nat → Option Nat} {a1 : Int32} {Q : Int32 → (Nat → Nat → Int32) → Prop} {V : Nat → Nat → Int32} {s1 : Int32} (hw : wX6_guestBest_14 t a1 Q V s1) : J G l MX6_guestBest d c n 14 [(0, .ref t), (1, .int a1)] [.int s1, .ref t] (mk sh V R) (jWr sh R Q) jNo := by
  unfold wX6_guestBest_14 at hw
  refine pX6_54 rfl hT dX6_guestBest_14 ?_
  refine J.aload_n 0 dX6_guestBest_17 rfl ?_
  refine gX6_54 rfl hT dX6_guestBest_18 ?_
  refine J.if_le 26 dX6_guestBest_21 (by decide) ⟨fun c21 => ?_, fun c21 => ?_⟩
  · have hw := hw.1 c21
    refine J.aload_n 0 dX6_guestBest_26 rfl ?_
    refine J.iconst (v := (0 : Int32)) dX6_guestBest_27 (by decide) ?_
    refine kX6_365 rfl htr hT dX6_guestBest_28 (by omega) (Nat.le_of_ble_eq_true rfl) hw (fun V28 hw => ?_)
    refine J.aload_n 0 dX6_guestBest_31 rfl ?_
    refine gX6_32 rfl hT dX6_guestBest_32 ?_
    refine J.iload_n 1 dX6_guestBest_35 rfl ?_
    obtain ⟨h36, hw⟩ := hw
    refine JV.iald dX6_guestBest_36 (hT.ge 7) (hT.at 7 rfl) h36 ?_
    exact J.iret rfl dX6_guestBest_37 ⟨_, rfl, _, rfl, hw⟩
  · have hw := hw.2 c21
    refine J.iconst (v := (0 : Int32)) dX6_guestBest_24 (by decide) ?_
    exact J.iret rfl dX6_guestBest_25 ⟨_, rfl, _, rfl, hw⟩
def wX6_guestBest (t : Nat) (V : Nat → Nat → Int32) (a1 : Int32) (Q : Int32 → (Nat → Nat → Int32) → Prop) : Prop :=
  wX6_isHost t V a1 (fun r3 => ((¬ r3 = 0 → wX6_guestBest_14 t a1 Q V (0 : Int32)) ∧ (r3 = 0 → wX6_guestBest_14 t a1 Q V (1 : Int32))))
theorem mX6_guestBest {G : jG} {l : Launch} (htr : l.stackTraces = false) {sh : List jH} {V : Nat → Nat → Int32} {R : Nat → Nat → Option Nat} {t : Nat} (hT : jReg shX6 sh t) {a1 : Int32} {Q : Int32 → (Nat → Nat → Int32) → Prop} (hw : wX6_guestBest t V a1 Q) : JM G l MX6_guestBest 4 0 0 [.ref t, .int a1] (mk sh V R) (jWr sh R Q) jNo := by
  refine JM.intro (by decide) rfl htr (Nat.le_of_ble_eq_true rfl) ?_
  show J G l MX6_guestBest 4 0 0 0 [(0, .ref t), (1, .int a1)] [] (mk sh V R) _ _
  unfold wX6_guestBest at hw
  refine J.aload_n 0 dX6_guestBest_0 rfl ?_
  refine J.aload_n 0 dX6_guestBest_1 rfl ?_
  refine J.iload_n 1 dX6_guestBest_2 rfl ?_
  refine kX6_310 rfl htr hT dX6_guestBest_3 (by omega) (Nat.le_of_ble_eq_true rfl) hw (fun r3 hw => ?_)
  refine J.if_ne 13 dX6_guestBest_6 (by decide) ⟨fun c6 => ?_, fun c6 => ?_⟩
  · have hw := hw.1 c6
    refine J.iconst (v := (0 : Int32)) dX6_guestBest_13 (by decide) ?_
    exact (rX6_guestBest_14 htr (Nat.le_refl _) hT hw)
  · have hw := hw.2 c6
    refine J.iconst (v := (1 : Int32)) dX6_guestBest_9 (by decide) ?_
    refine J.goto 14 dX6_guestBest_10 (by decide) ?_
    exact (rX6_guestBest_14 htr (Nat.le_refl _) hT hw)
-- VisitingHoursModel.wrongBy(II)I
abbrev MX6_wrongBy : jM := (yX6_wrongBy, cX6_wrongBy, 6, some .int, [])
def wX6_wrongBy_17 (t : Nat) (V : Nat → Nat → Int32) (a1 : Int32) (a2 : Int32) (Q : Int32 → Prop) (K5 : Int32 → Int32 → Prop) : Nat → Int32 → Int32 → Int32 → Prop
  | 0, _, _, _ => False
  | f + 1, x3, x4, x5 =>
    ((a2 ≤ x5 → (∀ y64 : Int32, y64 = x4 + (1 : Int32) → K5 x3 y64)) ∧ (¬ a2 ≤ x5 → (vp_in x4 400 ∧ wX6_rankOf t V a1 (V (t + 5) x4.toNatClampNeg) (fun r33 => (vp_in x5 400 ∧ wX6_rankOf t V a1 (V (t + 5) x5.toNatClampNeg) (fun r45 => ((r45 ≤ r33 → (∀ y57 : Int32, y57 = (x3 + (0 : Int32)) → (∀ y58 : Int32, y58 = x5 + (1 : Int32) → wX6_wrongBy_17 t V a1 a2 Q K5 f y57 x4 y58))) ∧ (¬ r45 ≤ r33 → (∀ y57 : Int32, y57 = (x3 + (1 : Int32)) → (∀ y58 : Int32, y58 = x5 + (1 : Int32) → wX6_wrongBy_17 t V a1 a2 Q K5 f y57 x4 y58))))))))))
theorem rX6_wrongBy_17 {G : jG} {l : Launch} {d c n : Nat} (htr : l.stackTraces = false) (hdd : 1 ≤ d) {sh : List jH} {t : Nat} (hT : jReg shX6 sh t) {R : Nat → Nat → Option Nat} {V : Nat → Nat → Int32} {a1 : Int32} {a2 : Int32} {Q : Int32 → Prop} {K5 : Int32 → Int32 → Prop} (hK5 : ∀ (x3 : Int32) (x4 : Int32), K5 x3 x4 → J G l MX6_wrongBy d c n 5 [(0, .ref t), (1, .int a1), (2, .int a2), (3, .int x3), (4, .int x4)] [] (mk sh V R) (jRd (mk sh V R) Q) jNo) : ∀ (f : Nat) (x3 : Int32) (x4 : Int32) (x5 : Int32), wX6_wrongBy_17 t V a1 a2 Q K5 f x3 x4 x5 → J G l MX6_wrongBy d c n 17 [(0, .ref t), (1, .int a1), (2, .int a2), (3, .int x3), (4, .int x4), (5, .int x5)] [] (mk sh V R) (jRd (mk sh V R) Q) jNo := by
  intro f
  induction f with
  | zero =>
    intro x3 x4 x5 hw
    rw [wX6_wrongBy_17] at hw
    exact hw.elim
  | succ f ih =>
    intro x3 x4 x5 hw
    rw [wX6_wrongBy_17] at hw
    refine J.iload 5 dX6_wrongBy_17 rfl ?_
    refine J.iload_n 2 dX6_wrongBy_19 rfl ?_
    refine J.icmp_ge 64 dX6_wrongBy_20 (by decide) ⟨fun c20 => ?_, fun c20 => ?_⟩
    · have hw := hw.1 c20
      refine J.iincN 4 (K := (1 : Int32)) (lv' := fun y64 => [(4, .int y64), (0, .ref t), (1, .int a1), (2, .int a2), (3, .int x3), (5, .int x5)]) dX6_wrongBy_64 rfl (by decide) (by decide) (fun _ => rfl) hw (fun y64 hw => ?_)
      refine J.goto 5 dX6_wrongBy_67 (by decide) ?_
      exact J.pick [1, 2, 3, 4, 0] rfl (hK5 _ _ hw)
    · have hw := hw.2 c20
      refine J.iload_n 3 dX6_wrongBy_23 rfl ?_
      refine J.aload_n 0 dX6_wrongBy_24 rfl ?_
      refine J.iload_n 1 dX6_wrongBy_25 rfl ?_
      refine J.aload_n 0 dX6_wrongBy_26 rfl ?_
      refine gX6_22 rfl hT dX6_wrongBy_27 ?_
      refine J.iload 4 dX6_wrongBy_30 rfl ?_
      obtain ⟨h32, hw⟩ := hw
      refine JV.iald dX6_wrongBy_32 (hT.ge 5) (hT.at 5 rfl) h32 ?_
      refine kX6_61 rfl htr hT dX6_wrongBy_33 (by omega) (Nat.le_of_ble_eq_true rfl) hw (fun r33 hw => ?_)
      refine J.aload_n 0 dX6_wrongBy_36 rfl ?_
      refine J.iload_n 1 dX6_wrongBy_37 rfl ?_
      refine J.aload_n 0 dX6_wrongBy_38 rfl ?_
      refine gX6_22 rfl hT dX6_wrongBy_39 ?_
      refine J.iload 5 dX6_wrongBy_42 rfl ?_
      obtain ⟨h44, hw⟩ := hw
      refine JV.iald dX6_wrongBy_44 (hT.ge 5) (hT.at 5 rfl) h44 ?_
      refine kX6_61 rfl htr hT dX6_wrongBy_45 (by omega) (Nat.le_of_ble_eq_true rfl) hw (fun r45 hw => ?_)
      refine J.icmp_ge 55 dX6_wrongBy_48 (by decide) ⟨fun c48 => ?_, fun c48 => ?_⟩
      · have hw := hw.1 c48
        refine J.iconst (v := (0 : Int32)) dX6_wrongBy_55 (by decide) ?_
        refine J.iadd dX6_wrongBy_56 ?_
        refine J.nm hw (fun y57 hw => ?_)
        refine J.istore_n (lv' := [(3, .int y57), (0, .ref t), (1, .int a1), (2, .int a2), (4, .int x4), (5, .int x5)]) dX6_wrongBy_57 (by decide) rfl ?_
        refine J.iincN 5 (K := (1 : Int32)) (lv' := fun y58 => [(5, .int y58), (3, .int y57), (0, .ref t), (1, .int a1), (2, .int a2), (4, .int x4)]) dX6_wrongBy_58 rfl (by decide) (by decide) (fun _ => rfl) hw (fun y58 hw => ?_)
        refine J.goto 17 dX6_wrongBy_61 (by decide) ?_
        exact J.pick [2, 3, 4, 1, 5, 0] rfl (ih _ _ _ hw)
      · have hw := hw.2 c48
        refine J.iconst (v := (1 : Int32)) dX6_wrongBy_51 (by decide) ?_
        refine J.goto 56 dX6_wrongBy_52 (by decide) ?_
        refine J.iadd dX6_wrongBy_56 ?_
        refine J.nm hw (fun y57 hw => ?_)
        refine J.istore_n (lv' := [(3, .int y57), (0, .ref t), (1, .int a1), (2, .int a2), (4, .int x4), (5, .int x5)]) dX6_wrongBy_57 (by decide) rfl ?_
        refine J.iincN 5 (K := (1 : Int32)) (lv' := fun y58 => [(5, .int y58), (3, .int y57), (0, .ref t), (1, .int a1), (2, .int a2), (4, .int x4)]) dX6_wrongBy_58 rfl (by decide) (by decide) (fun _ => rfl) hw (fun y58 hw => ?_)
        refine J.goto 17 dX6_wrongBy_61 (by decide) ?_
        exact J.pick [2, 3, 4, 1, 5, 0] rfl (ih _ _ _ hw)
def wX6_wrongBy_5 (t : Nat) (V : Nat → Nat → Int32) (a1 : Int32) (a2 : Int32) (Q : Int32 → Prop) : Nat → Int32 → Int32 → Prop
  | 0, _, _ => False
  | f + 1, x3, x4 =>
    ((a2 ≤ x4 → Q x3) ∧ (¬ a2 ≤ x4 → (∀ y15 : Int32, y15 = (x4 + (1 : Int32)) → (∃ f9, wX6_wrongBy_17 t V a1 a2 Q (fun x3 x4 => wX6_wrongBy_5 t V a1 a2 Q f x3 x4) f9 x3 x4 y15))))
theorem rX6_wrongBy_5 {G : jG} {l : Launch} {d c n : Nat} (htr : l.stackTraces = false) (hdd : 1 ≤ d) {sh : List jH} {t : Nat} (hT : jReg shX6 sh t) {R : Nat → Nat → Option Nat} {V : Nat → Nat → Int32} {a1 : Int32} {a2 : Int32} {Q : Int32 → Prop} : ∀ (f : Nat) (x3 : Int32) (x4 : Int32), wX6_wrongBy_5 t V a1 a2 Q f x3 x4 → J G l MX6_wrongBy d c n 5 [(0, .ref t), (1, .int a1), (2, .int a2), (3, .int x3), (4, .int x4)] [] (mk sh V R) (jRd (mk sh V R) Q) jNo := by
  intro f
  induction f with
  | zero =>
    intro x3 x4 hw
    rw [wX6_wrongBy_5] at hw
    exact hw.elim
  | succ f ih =>
    intro x3 x4 hw
    rw [wX6_wrongBy_5] at hw
    refine J.iload 4 dX6_wrongBy_5 rfl ?_
    refine J.iload_n 2 dX6_wrongBy_7 rfl ?_
    refine J.icmp_ge 70 dX6_wrongBy_8 (by decide) ⟨fun c8 => ?_, fun c8 => ?_⟩
    · have hw := hw.1 c8
      refine J.iload_n 3 dX6_wrongBy_70 rfl ?_
      exact J.iret rfl dX6_wrongBy_71 ⟨rfl, _, rfl, hw⟩
    · have hw := hw.2 c8
      refine J.iload 4 dX6_wrongBy_11 rfl ?_
      refine J.iconst (v := (1 : Int32)) dX6_wrongBy_13 (by decide) ?_
      refine J.iadd dX6_wrongBy_14 ?_
      refine J.nm hw (fun y15 hw => ?_)
      refine J.istore (lv' := [(5, .int y15), (0, .ref t), (1, .int a1), (2, .int a2), (3, .int x3), (4, .int x4)]) dX6_wrongBy_15 (by decide) rfl ?_
      obtain ⟨f9, hw⟩ := hw
      exact J.pick [1, 2, 3, 4, 5, 0] rfl (rX6_wrongBy_17 htr hdd hT ih f9 _ _ _ hw)
def wX6_wrongBy (t : Nat) (V : Nat → Nat → Int32) (a1 : Int32) (a2 : Int32) (Q : Int32 → Prop) : Prop :=
  (∃ f9, wX6_wrongBy_5 t V a1 a2 Q f9 (0 : Int32) (0 : Int32))
theorem mX6_wrongBy {G : jG} {l : Launch} (htr : l.stackTraces = false) {sh : List jH} {V : Nat → Nat → Int32} {R : Nat → Nat → Option Nat} {t : Nat} (hT : jReg shX6 sh t) {a1 : Int32} {a2 : Int32} {Q : Int32 → Prop} (hw : wX6_wrongBy t V a1 a2 Q) : JM G l MX6_wrongBy 1 0 0 [.ref t, .int a1, .int a2] (mk sh V R) (jRd (mk sh V R) Q) jNo := by
  refine JM.intro (by decide) rfl htr (Nat.le_of_ble_eq_true rfl) ?_
  show J G l MX6_wrongBy 1 0 0 0 [(0, .ref t), (1, .int a1), (2, .int a2)] [] (mk sh V R) _ _
  unfold wX6_wrongBy at hw
  refine J.iconst (v := (0 : Int32)) dX6_wrongBy_0 (by decide) ?_
  refine J.istore_n (lv' := [(3, .int (0 : Int32)), (0, .ref t), (1, .int a1), (2, .int a2)]) dX6_wrongBy_1 (by decide) rfl ?_
  refine J.iconst (v := (0 : Int32)) dX6_wrongBy_2 (by decide) ?_
  refine J.istore (lv' := [(4, .int (0 : Int32)), (3, .int (0 : Int32)), (0, .ref t), (1, .int a1), (2, .int a2)]) dX6_wrongBy_3 (by decide) rfl ?_
  obtain ⟨f9, hw⟩ := hw
  exact J.pick [2, 3, 4, 1, 0] rfl (rX6_wrongBy_5 htr (Nat.le_refl _) hT f9 _ _ hw)
theorem kX6_403 {G : jG} {l : Launch} {M : jM} {d c n pc : Nat} {lv : List (Nat × Value)} {rest : List Value} {post : Option Value → List jC → Prop} {xp : String → List jC → Prop} (hM : M.1.cls = RX6) (htr : l.stackTraces = false) {sh : List jH} {V : Nat → Nat → Int32} {R : Nat → Nat → Option Nat} {t : Nat} (hT : jReg shX6 sh t) {a1 : Int32} {a2 : Int32} {Q : Int32 → Prop} (hd : decode M.2.1 pc = .ok (.invokevirtual 403, 3)) (hdd : 1 + 1 ≤ d) (hw8 : (rest.map fun v => v.category).sum ≤ 8) (hw : wX6_wrongBy t V a1 a2 Q) (kk : ∀ r, Q r → J G l M d c n (pc + 3) lv (.int r :: rest) (mk sh V R) post xp) : J G l M d c n pc lv (.int a2 :: .int a1 :: .ref t :: rest) (mk sh V R) post xp :=
  J.callV (As := [.int a1, .int a2]) (hcw := by rw [hM]; exact lw_V q2668 q2670 qs136 q152 q2671) (mX6_wrongBy htr hT hw) hd rfl ⟨5, _, _, mk_at (hT.at 0 rfl), rfl, rfl, fun _ => rfl⟩ ⟨rfl, by decide, by decide, by show _ = some 2; decide +kernel⟩ hw8 ⟨hdd, by decide⟩ jcc0 (fun r9 g9 h9 => by obtain ⟨rfl, r, rfl, h⟩ := h9; exact kk r h) jNo.x
-- VisitingHoursModel.hand(Z)I
abbrev MX6_hand : jM := (yX6_hand, cX6_hand, 7, some .int, [])
def wX6_hand_118 (t : Nat) (a1 : Int32) (Q : Int32 → (Nat → Nat → Int32) → Prop) : Nat → (Nat → Nat → Int32) → Int32 → Int32 → Int32 → Prop
  | 0, _, _, _, _ => False
  | f + 1, V, x2, x5, x6 =>
    (((V (t + 1) 3) ≤ x6 → ((¬ a1 = 0 → ((¬ x5 = (-1 : Int32) → wX6_wrongBy t V x5 x2 (fun r185 => Q r185 V)) ∧ (x5 = (-1 : Int32) → Q (0 : Int32) V))) ∧ (a1 = 0 → Q x5 V))) ∧ (¬ (V (t + 1) 3) ≤ x6 → ((x5 = (-1 : Int32) → (∀ y156 : Int32, y156 = x6 + (1 : Int32) → wX6_hand_118 t a1 Q f V x2 x6 y156)) ∧ (¬ x5 = (-1 : Int32) → wX6_wrongBy t V x6 x2 (fun r139 => wX6_wrongBy t V x5 x2 (fun r146 => ((r146 ≤ r139 → (∀ y156 : Int32, y156 = x6 + (1 : Int32) → wX6_hand_118 t a1 Q f V x2 x5 y156)) ∧ (¬ r146 ≤ r139 → (∀ y156 : Int32, y156 = x6 + (1 : Int32) → wX6_hand_118 t a1 Q f V x2 x6 y156)))))))))
theorem rX6_hand_118 {G : jG} {l : Launch} {d c n : Nat} (htr : l.stackTraces = false) (hdd : 2 ≤ d) {sh : List jH} {t : Nat} (hT : jReg shX6 sh t) {R : Nat → Nat → Option Nat} {a1 : Int32} {Q : Int32 → (Nat → Nat → Int32) → Prop} : ∀ (f : Nat) (V : Nat → Nat → Int32) (x2 : Int32) (x5 : Int32) (x6 : Int32), wX6_hand_118 t a1 Q f V x2 x5 x6 → J G l MX6_hand d c n 118 [(0, .ref t), (1, .int a1), (2, .int x2), (5, .int x5), (6, .int x6)] [] (mk sh V R) (jWr sh R Q) jNo := by
  intro f
  induction f with
  | zero =>
    intro V x2 x5 x6 hw
    rw [wX6_hand_118] at hw
    exact hw.elim
  | succ f ih =>
    intro V x2 x5 x6 hw
    rw [wX6_hand_118] at hw
    refine J.iload 4 dX6_hand_118 rfl ?_
    refine J.aload_n 0 dX6_hand_120 rfl ?_
    refine gX6_7 rfl hT dX6_hand_121 ?_
    refine J.iconst (v := (3 : Int32)) dX6_hand_124 (by decide) ?_
    refine JV.ialdK 3 dX6_hand_125 (hT.ge 1) (hT.at 1 rfl) rfl (by decide) (by decide) ?_
    refine J.icmp_ge 162 dX6_hand_126 (by decide) ⟨fun c126 => ?_, fun c126 => ?_⟩
    · have hw := hw.1 c126
      refine J.iload_n 1 dX6_hand_162 rfl ?_
      refine J.if_ne 171 dX6_hand_163 (by decide) ⟨fun c163 => ?_, fun c163 => ?_⟩
      · have hw := hw.1 c163
        refine J.iload 3 dX6_hand_171 rfl ?_
        refine J.iconst (v := (-1 : Int32)) dX6_hand_173 (by decide) ?_
        refine J.icmp_ne 181 dX6_hand_174 (by decide) ⟨fun c174 => ?_, fun c174 => ?_⟩
        · have hw := hw.1 c174
          refine J.aload_n 0 dX6_hand_181 rfl ?_
          refine J.iload 3 dX6_hand_182 rfl ?_
          refine J.iload_n 2 dX6_hand_184 rfl ?_
          refine kX6_403 rfl htr hT dX6_hand_185 (by omega) (Nat.le_of_ble_eq_true rfl) hw (fun r185 hw => ?_)
          exact J.iret rfl dX6_hand_188 ⟨_, rfl, _, rfl, hw⟩
        · have hw := hw.2 c174
          refine J.iconst (v := (0 : Int32)) dX6_hand_177 (by decide) ?_
          refine J.goto 188 dX6_hand_178 (by decide) ?_
          exact J.iret rfl dX6_hand_188 ⟨_, rfl, _, rfl, hw⟩
      · have hw := hw.2 c163
        refine J.iload 3 dX6_hand_166 rfl ?_
        refine J.goto 188 dX6_hand_168 (by decide) ?_
        exact J.iret rfl dX6_hand_188 ⟨_, rfl, _, rfl, hw⟩
    · have hw := hw.2 c126
      refine J.iload 3 dX6_hand_129 rfl ?_
      refine J.iconst (v := (-1 : Int32)) dX6_hand_131 (by decide) ?_
      refine J.icmp_eq 152 dX6_hand_132 (by decide) ⟨fun c132 => ?_, fun c132 => ?_⟩
      · have hw := hw.1 c132
        refine J.iload 4 dX6_hand_152 rfl ?_
        refine J.istore (lv' := [(5, .int x6), (0, .ref t), (1, .int a1), (2, .int x2), (6, .int x6)]) dX6_hand_154 (by decide) rfl ?_
        refine J.iincN 4 (K := (1 : Int32)) (lv' := fun y156 => [(6, .int y156), (5, .int x6), (0, .ref t), (1, .int a1), (2, .int x2)]) dX6_hand_156 rfl (by decide) (by decide) (fun _ => rfl) hw (fun y156 hw => ?_)
        refine J.goto 118 dX6_hand_159 (by decide) ?_
        exact J.pick [2, 3, 4, 1, 0] rfl (ih _ _ _ _ hw)
      · have hw := hw.2 c132
        refine J.aload_n 0 dX6_hand_135 rfl ?_
        refine J.iload 4 dX6_hand_136 rfl ?_
        refine J.iload_n 2 dX6_hand_138 rfl ?_
        refine kX6_403 rfl htr hT dX6_hand_139 (by omega) (Nat.le_of_ble_eq_true rfl) hw (fun r139 hw => ?_)
        refine J.aload_n 0 dX6_hand_142 rfl ?_
        refine J.iload 3 dX6_hand_143 rfl ?_
        refine J.iload_n 2 dX6_hand_145 rfl ?_
        refine kX6_403 rfl htr hT dX6_hand_146 (by omega) (Nat.le_of_ble_eq_true rfl) hw (fun r146 hw => ?_)
        refine J.icmp_ge 156 dX6_hand_149 (by decide) ⟨fun c149 => ?_, fun c149 => ?_⟩
        · have hw := hw.1 c149
          refine J.iincN 4 (K := (1 : Int32)) (lv' := fun y156 => [(6, .int y156), (0, .ref t), (1, .int a1), (2, .int x2), (5, .int x5)]) dX6_hand_156 rfl (by decide) (by decide) (fun _ => rfl) hw (fun y156 hw => ?_)
          refine J.goto 118 dX6_hand_159 (by decide) ?_
          exact J.pick [1, 2, 3, 4, 0] rfl (ih _ _ _ _ hw)
        · have hw := hw.2 c149
          refine J.iload 4 dX6_hand_152 rfl ?_
          refine J.istore (lv' := [(5, .int x6), (0, .ref t), (1, .int a1), (2, .int x2), (6, .int x6)]) dX6_hand_154 (by decide) rfl ?_
          refine J.iincN 4 (K := (1 : Int32)) (lv' := fun y156 => [(6, .int y156), (5, .int x6), (0, .ref t), (1, .int a1), (2, .int x2)]) dX6_hand_156 rfl (by decide) (by decide) (fun _ => rfl) hw (fun y156 hw => ?_)
          refine J.goto 118 dX6_hand_159 (by decide) ?_
          exact J.pick [2, 3, 4, 1, 0] rfl (ih _ _ _ _ hw)
def wX6_hand_100 (t : Nat) (a1 : Int32) (Q : Int32 → (Nat → Nat → Int32) → Prop) (V : Nat → Nat → Int32) (x2 : Int32) (s1 : Int32) : Prop :=
  ((((vset V t 0 s1) t 0) ≤ 0 → (∃ f9, wX6_hand_118 t a1 Q f9 (vset V t 0 s1) x2 (-1 : Int32) (0 : Int32))) ∧ (¬ ((vset V t 0 s1) t 0) ≤ 0 → Q (0 : Int32) (vset V t 0 s1)))
theorem rX6_hand_100 {G : jG} {l : Launch} {d c n : Nat} (htr : l.stackTraces = false) (hdd : 2 ≤ d) {sh : List jH} {t : Nat} (hT : jReg shX6 sh t) {R : Nat → Nat → Option Nat} {a1 : Int32} {Q : Int32 → (Nat → Nat → Int32) → Prop} {V : Nat → Nat → Int32} {x2 : Int32} {s1 : Int32} (hw : wX6_hand_100 t a1 Q V x2 s1) : J G l MX6_hand d c n 100 [(0, .ref t), (1, .int a1), (2, .int x2)] [.int s1, .ref t] (mk sh V R) (jWr sh R Q) jNo := by
  unfold wX6_hand_100 at hw
  refine pX6_54 rfl hT dX6_hand_100 ?_
  refine J.aload_n 0 dX6_hand_103 rfl ?_
  refine gX6_54 rfl hT dX6_hand_104 ?_
  refine J.if_le 112 dX6_hand_107 (by decide) ⟨fun c107 => ?_, fun c107 => ?_⟩
  · have hw := hw.1 c107
    refine J.iconst (v := (-1 : Int32)) dX6_hand_112 (by decide) ?_
    refine J.istore (lv' := [(5, .int (-1 : Int32)), (0, .ref t), (1, .int a1), (2, .int x2)]) dX6_hand_113 (by decide) rfl ?_
    refine J.iconst (v := (0 : Int32)) dX6_hand_115 (by decide) ?_
    refine J.istore (lv' := [(6, .int (0 : Int32)), (5, .int (-1 : Int32)), (0, .ref t), (1, .int a1), (2, .int x2)]) dX6_hand_116 (by decide) rfl ?_
    obtain ⟨f9, hw⟩ := hw
    exact J.pick [2, 3, 4, 1, 0] rfl (rX6_hand_118 htr hdd hT f9 _ _ _ _ hw)
  · have hw := hw.2 c107
    refine J.iconst (v := (0 : Int32)) dX6_hand_110 (by decide) ?_
    exact J.iret rfl dX6_hand_111 ⟨_, rfl, _, rfl, hw⟩
def wX6_hand_89 (t : Nat) (a1 : Int32) (Q : Int32 → (Nat → Nat → Int32) → Prop) (V : Nat → Nat → Int32) (x2 : Int32) (x4 : Int32) : Prop :=
  ((x4 = 0 → wX6_hand_100 t a1 Q V x2 (1 : Int32)) ∧ (¬ x4 = 0 → wX6_hand_100 t a1 Q V x2 (0 : Int32)))
theorem rX6_hand_89 {G : jG} {l : Launch} {d c n : Nat} (htr : l.stackTraces = false) (hdd : 2 ≤ d) {sh : List jH} {t : Nat} (hT : jReg shX6 sh t) {R : Nat → Nat → Option Nat} {a1 : Int32} {Q : Int32 → (Nat → Nat → Int32) → Prop} {V : Nat → Nat → Int32} {x2 : Int32} {x4 : Int32} (hw : wX6_hand_89 t a1 Q V x2 x4) : J G l MX6_hand d c n 89 [(0, .ref t), (1, .int a1), (2, .int x2), (4, .int x4)] [] (mk sh V R) (jWr sh R Q) jNo := by
  unfold wX6_hand_89 at hw
  refine J.aload_n 0 dX6_hand_89 rfl ?_
  refine J.iload 3 dX6_hand_90 rfl ?_
  refine J.if_eq 99 dX6_hand_92 (by decide) ⟨fun c92 => ?_, fun c92 => ?_⟩
  · have hw := hw.1 c92
    refine J.iconst (v := (1 : Int32)) dX6_hand_99 (by decide) ?_
    exact J.pick [0, 1, 2] rfl (rX6_hand_100 htr hdd hT hw)
  · have hw := hw.2 c92
    refine J.iconst (v := (0 : Int32)) dX6_hand_95 (by decide) ?_
    refine J.goto 100 dX6_hand_96 (by decide) ?_
    exact J.pick [0, 1, 2] rfl (rX6_hand_100 htr hdd hT hw)
def wX6_hand_64 (t : Nat) (a1 : Int32) (Q : Int32 → (Nat → Nat → Int32) → Prop) (K18 : (Nat → Nat → Int32) → Int32 → Int32 → Int32 → Int32 → Prop) (V : Nat → Nat → Int32) (x2 : Int32) (x3 : Int32) (x5 : Int32) (s0 : Int32) : Prop :=
  ((s0 = 0 → (∀ y83 : Int32, y83 = x5 + (1 : Int32) → K18 V x2 x3 s0 y83)) ∧ (¬ s0 = 0 → (vp_in x5 400 ∧ (∀ y82 : Int32, y82 = (x3 ||| ((1 : Int32) <<< ((V (t + 5) x5.toNatClampNeg) &&& 31))) → (∀ y83 : Int32, y83 = x5 + (1 : Int32) → K18 V x2 y82 s0 y83)))))
theorem rX6_hand_64 {G : jG} {l : Launch} {d c n : Nat} (htr : l.stackTraces = false) (hdd : 2 ≤ d) {sh : List jH} {t : Nat} (hT : jReg shX6 sh t) {R : Nat → Nat → Option Nat} {a1 : Int32} {Q : Int32 → (Nat → Nat → Int32) → Prop} {K18 : (Nat → Nat → Int32) → Int32 → Int32 → Int32 → Int32 → Prop} (hK18 : ∀ (V : Nat → Nat → Int32) (x2 : Int32) (x3 : Int32) (x4 : Int32) (x5 : Int32), K18 V x2 x3 x4 x5 → J G l MX6_hand d c n 18 [(0, .ref t), (1, .int a1), (2, .int x2), (3, .int x3), (4, .int x4), (5, .int x5)] [] (mk sh V R) (jWr sh R Q) jNo) {V : Nat → Nat → Int32} {x2 : Int32} {x3 : Int32} {x5 : Int32} {s0 : Int32} (hw : wX6_hand_64 t a1 Q K18 V x2 x3 x5 s0) : J G l MX6_hand d c n 64 [(0, .ref t), (1, .int a1), (2, .int x2), (3, .int x3), (5, .int x5)] [.int s0] (mk sh V R) (jWr sh R Q) jNo := by
  unfold wX6_hand_64 at hw
  refine J.istore (lv' := [(4, .int s0), (0, .ref t), (1, .int a1), (2, .int x2), (3, .int x3), (5, .int x5)]) dX6_hand_64 (by decide) rfl ?_
  refine J.iload 0 dX6_hand_66 rfl ?_
  refine J.if_eq 83 dX6_hand_68 (by decide) ⟨fun c68 => ?_, fun c68 => ?_⟩
  · have hw := hw.1 c68
    refine J.iincN 5 (K := (1 : Int32)) (lv' := fun y83 => [(5, .int y83), (4, .int s0), (0, .ref t), (1, .int a1), (2, .int x2), (3, .int x3)]) dX6_hand_83 rfl (by decide) (by decide) (fun _ => rfl) hw (fun y83 hw => ?_)
    refine J.goto 18 dX6_hand_86 (by decide) ?_
    exact J.pick [2, 3, 4, 5, 1, 0] rfl (hK18 _ _ _ _ _ hw)
  · have hw := hw.2 c68
    refine J.iload_n 4 dX6_hand_71 rfl ?_
    refine J.iconst (v := (1 : Int32)) dX6_hand_72 (by decide) ?_
    refine J.aload_n 1 dX6_hand_73 rfl ?_
    refine gX6_22 rfl hT dX6_hand_74 ?_
    refine J.iload 5 dX6_hand_77 rfl ?_
    obtain ⟨h79, hw⟩ := hw
    refine JV.iald dX6_hand_79 (hT.ge 5) (hT.at 5 rfl) h79 ?_
    refine J.ishl dX6_hand_80 ?_
    refine J.ior dX6_hand_81 ?_
    refine J.nm hw (fun y82 hw => ?_)
    refine J.istore_n (lv' := [(3, .int y82), (4, .int s0), (0, .ref t), (1, .int a1), (2, .int x2), (5, .int x5)]) dX6_hand_82 (by decide) rfl ?_
    refine J.iincN 5 (K := (1 : Int32)) (lv' := fun y83 => [(5, .int y83), (3, .int y82), (4, .int s0), (0, .ref t), (1, .int a1), (2, .int x2)]) dX6_hand_83 rfl (by decide) (by decide) (fun _ => rfl) hw (fun y83 hw => ?_)
    refine J.goto 18 dX6_hand_86 (by decide) ?_
    exact J.pick [3, 4, 5, 1, 2, 0] rfl (hK18 _ _ _ _ _ hw)
def wX6_hand_63 (t : Nat) (a1 : Int32) (Q : Int32 → (Nat → Nat → Int32) → Prop) (K18 : (Nat → Nat → Int32) → Int32 → Int32 → Int32 → Int32 → Prop) (V : Nat → Nat → Int32) (x2 : Int32) (x3 : Int32) (x5 : Int32) : Prop :=
  wX6_hand_64 t a1 Q K18 V x2 x3 x5 (0 : Int32)
theorem rX6_hand_63 {G : jG} {l : Launch} {d c n : Nat} (htr : l.stackTraces = false) (hdd : 2 ≤ d) {sh : List jH} {t : Nat} (hT : jReg shX6 sh t) {R : Nat → Nat → Option Nat} {a1 : Int32} {Q : Int32 → (Nat → Nat → Int32) → Prop} {K18 : (Nat → Nat → Int32) → Int32 → Int32 → Int32 → Int32 → Prop} (hK18 : ∀ (V : Nat → Nat → Int32) (x2 : Int32) (x3 : Int32) (x4 : Int32) (x5 : Int32), K18 V x2 x3 x4 x5 → J G l MX6_hand d c n 18 [(0, .ref t), (1, .int a1), (2, .int x2), (3, .int x3), (4, .int x4), (5, .int x5)] [] (mk sh V R) (jWr sh R Q) jNo) {V : Nat → Nat → Int32} {x2 : Int32} {x3 : Int32} {x5 : Int32} (hw : wX6_hand_63 t a1 Q K18 V x2 x3 x5) : J G l MX6_hand d c n 63 [(0, .ref t), (1, .int a1), (2, .int x2), (3, .int x3), (5, .int x5)] [] (mk sh V R) (jWr sh R Q) jNo := by
  unfold wX6_hand_63 at hw
  refine J.iconst (v := (0 : Int32)) dX6_hand_63 (by decide) ?_
  exact (rX6_hand_64 htr hdd hT hK18 hw)
def wX6_hand_18 (t : Nat) (a1 : Int32) (Q : Int32 → (Nat → Nat → Int32) → Prop) : Nat → (Nat → Nat → Int32) → Int32 → Int32 → Int32 → Int32 → Prop
  | 0, _, _, _, _, _ => False
  | f + 1, V, x2, x3, x4, x5 =>
    ((x2 ≤ x5 → wX6_hand_89 t a1 Q V x2 x4) ∧ (¬ x2 ≤ x5 → ((x4 = 0 → wX6_hand_89 t a1 Q V x2 x4) ∧ (¬ x4 = 0 → (vp_in x5 400 ∧ (((V (t + 1) 4) ≤ (V (t + 5) x5.toNatClampNeg) → wX6_hand_63 t a1 Q (fun V x2 x3 x4 x5 => wX6_hand_18 t a1 Q f V x2 x3 x4 x5) V x2 x3 x5) ∧ (¬ (V (t + 1) 4) ≤ (V (t + 5) x5.toNatClampNeg) → (vp_in x5 400 ∧ wX6_isOf x3 (V (t + 5) x5.toNatClampNeg) (fun r53 => ((¬ r53 = 0 → wX6_hand_63 t a1 Q (fun V x2 x3 x4 x5 => wX6_hand_18 t a1 Q f V x2 x3 x4 x5) V x2 x3 x5) ∧ (r53 = 0 → wX6_hand_64 t a1 Q (fun V x2 x3 x4 x5 => wX6_hand_18 t a1 Q f V x2 x3 x4 x5) V x2 x3 x5 (1 : Int32))))))))))))
theorem rX6_hand_18 {G : jG} {l : Launch} {d c n : Nat} (htr : l.stackTraces = false) (hdd : 2 ≤ d) {sh : List jH} {t : Nat} (hT : jReg shX6 sh t) {R : Nat → Nat → Option Nat} {a1 : Int32} {Q : Int32 → (Nat → Nat → Int32) → Prop} : ∀ (f : Nat) (V : Nat → Nat → Int32) (x2 : Int32) (x3 : Int32) (x4 : Int32) (x5 : Int32), wX6_hand_18 t a1 Q f V x2 x3 x4 x5 → J G l MX6_hand d c n 18 [(0, .ref t), (1, .int a1), (2, .int x2), (3, .int x3), (4, .int x4), (5, .int x5)] [] (mk sh V R) (jWr sh R Q) jNo := by
  intro f
  induction f with
  | zero =>
    intro V x2 x3 x4 x5 hw
    rw [wX6_hand_18] at hw
    exact hw.elim
  | succ f ih =>
    intro V x2 x3 x4 x5 hw
    rw [wX6_hand_18] at hw
    refine J.iload 5 dX6_hand_18 rfl ?_
    refine J.iload_n 2 dX6_hand_20 rfl ?_
    refine J.icmp_ge 89 dX6_hand_21 (by decide) ⟨fun c21 => ?_, fun c21 => ?_⟩
    · have hw := hw.1 c21
      exact J.pick [0, 1, 2, 4] rfl (rX6_hand_89 htr hdd hT hw)
    · have hw := hw.2 c21
      refine J.iload 4 dX6_hand_24 rfl ?_
      refine J.if_eq 89 dX6_hand_26 (by decide) ⟨fun c26 => ?_, fun c26 => ?_⟩
      · have hw := hw.1 c26
        exact J.pick [0, 1, 2, 4] rfl (rX6_hand_89 htr hdd hT hw)
      · have hw := hw.2 c26
        refine J.aload_n 0 dX6_hand_29 rfl ?_
        refine gX6_22 rfl hT dX6_hand_30 ?_
        refine J.iload 5 dX6_hand_33 rfl ?_
        obtain ⟨h35, hw⟩ := hw
        refine JV.iald dX6_hand_35 (hT.ge 5) (hT.at 5 rfl) h35 ?_
        refine J.aload_n 0 dX6_hand_36 rfl ?_
        refine gX6_7 rfl hT dX6_hand_37 ?_
        refine J.iconst (v := (4 : Int32)) dX6_hand_40 (by decide) ?_
        refine JV.ialdK 4 dX6_hand_41 (hT.ge 1) (hT.at 1 rfl) rfl (by decide) (by decide) ?_
        refine J.icmp_ge 63 dX6_hand_42 (by decide) ⟨fun c42 => ?_, fun c42 => ?_⟩
        · have hw := hw.1 c42
          exact J.pick [0, 1, 2, 3, 5] rfl (rX6_hand_63 htr hdd hT ih hw)
        · have hw := hw.2 c42
          refine J.iload_n 3 dX6_hand_45 rfl ?_
          refine J.aload_n 0 dX6_hand_46 rfl ?_
          refine gX6_22 rfl hT dX6_hand_47 ?_
          refine J.iload 5 dX6_hand_50 rfl ?_
          obtain ⟨h52, hw⟩ := hw
          refine JV.iald dX6_hand_52 (hT.ge 5) (hT.at 5 rfl) h52 ?_
          refine kX6_74 rfl htr dX6_hand_53 (by omega) (Nat.le_of_ble_eq_true rfl) hw (fun r53 hw => ?_)
          refine J.if_ne 63 dX6_hand_56 (by decide) ⟨fun c56 => ?_, fun c56 => ?_⟩
          · have hw := hw.1 c56
            exact J.pick [0, 1, 2, 3, 5] rfl (rX6_hand_63 htr hdd hT ih hw)
          · have hw := hw.2 c56
            refine J.iconst (v := (1 : Int32)) dX6_hand_59 (by decide) ?_
            refine J.goto 64 dX6_hand_60 (by decide) ?_
            exact J.pick [0, 1, 2, 3, 5] rfl (rX6_hand_64 htr hdd hT ih hw)
def wX6_hand (t : Nat) (V : Nat → Nat → Int32) (a1 : Int32) (Q : Int32 → (Nat → Nat → Int32) → Prop) : Prop :=
  (∀ y4 : Int32, y4 = (V t 8) → (∃ f9, wX6_hand_18 t a1 Q f9 (vset V t 8 (0 : Int32)) y4 (0 : Int32) (1 : Int32) (0 : Int32)))
theorem mX6_hand {G : jG} {l : Launch} (htr : l.stackTraces = false) {sh : List jH} {V : Nat → Nat → Int32} {R : Nat → Nat → Option Nat} {t : Nat} (hT : jReg shX6 sh t) {a1 : Int32} {Q : Int32 → (Nat → Nat → Int32) → Prop} (hw : wX6_hand t V a1 Q) : JM G l MX6_hand 2 0 0 [.ref t, .int a1] (mk sh V R) (jWr sh R Q) jNo := by
  refine JM.intro (by decide) rfl htr (Nat.le_of_ble_eq_true rfl) ?_
  show J G l MX6_hand 2 0 0 0 [(0, .ref t), (1, .int a1)] [] (mk sh V R) _ _
  unfold wX6_hand at hw
  refine J.aload_n 0 dX6_hand_0 rfl ?_
  refine gX6_81 rfl hT dX6_hand_1 ?_
  refine J.nm hw (fun y4 hw => ?_)
  refine J.istore_n (lv' := [(2, .int y4), (0, .ref t), (1, .int a1)]) dX6_hand_4 (by decide) rfl ?_
  refine J.aload_n 1 dX6_hand_5 rfl ?_
  refine J.iconst (v := (0 : Int32)) dX6_hand_6 (by decide) ?_
  refine pX6_81 rfl hT dX6_hand_7 ?_
  refine J.iconst (v := (0 : Int32)) dX6_hand_10 (by decide) ?_
  refine J.istore_n (lv' := [(3, .int (0 : Int32)), (2, .int y4), (0, .ref t), (1, .int a1)]) dX6_hand_11 (by decide) rfl ?_
  refine J.iconst (v := (1 : Int32)) dX6_hand_12 (by decide) ?_
  refine J.istore (lv' := [(4, .int (1 : Int32)), (3, .int (0 : Int32)), (2, .int y4), (0, .ref t), (1, .int a1)]) dX6_hand_13 (by decide) rfl ?_
  refine J.iconst (v := (0 : Int32)) dX6_hand_15 (by decide) ?_
  refine J.istore (lv' := [(5, .int (0 : Int32)), (4, .int (1 : Int32)), (3, .int (0 : Int32)), (2, .int y4), (0, .ref t), (1, .int a1)]) dX6_hand_16 (by decide) rfl ?_
  obtain ⟨f9, hw⟩ := hw
  exact J.pick [4, 5, 3, 2, 1, 0] rfl (rX6_hand_18 htr (Nat.le_refl _) hT f9 _ _ _ _ _ hw)
theorem kX6_303 {G : jG} {l : Launch} {M : jM} {d c n pc : Nat} {lv : List (Nat × Value)} {rest : List Value} {post : Option Value → List jC → Prop} {xp : String → List jC → Prop} (hM : M.1.cls = RX6) (htr : l.stackTraces = false) {sh : List jH} {V : Nat → Nat → Int32} {R : Nat → Nat → Option Nat} {a1 : Int32} {Q : Int32 → Prop} (hd : decode M.2.1 pc = .ok (.invokestatic 303, 3)) (hdd : 0 + 1 ≤ d) (hw8 : (rest.map fun v => v.category).sum ≤ 8) (hw : wX6_bits a1 Q) (kk : ∀ r, Q r → J G l M d c n (pc + 3) lv (.int r :: rest) (mk sh V R) post xp) : J G l M d c n pc lv (.int a1 :: rest) (mk sh V R) post xp :=
  J.callS (As := [.int a1]) (hcw := by rw [hM]; exact lw_S q2550 q2551 q152 q2552) (mX6_bits htr hw) hd rfl ⟨by decide, by decide, by show _ = some 1; decide +kernel⟩ hw8 ⟨hdd, by decide⟩ jcc0 (fun r9 g9 h9 => by obtain ⟨rfl, r, rfl, h⟩ := h9; exact kk r h) jNo.x
-- VisitingHoursModel.hasBy(II)I
abbrev MX6_hasBy : jM := (yX6_hasBy, cX6_hasBy, 3, some .int, [])
def wX6_hasBy (t : Nat) (V : Nat → Nat → Int32) (a1 : Int32) (a2 : Int32) (Q : Int32 → Prop) : Prop :=
  wX6_of t V a1 (0 : Int32) (fun r3 => wX6_of t V a1 (1 : Int32) (fun r14 => wX6_bits r14 (fun r17 => ((a2 ≤ r17 → Q (((r3 + (1 : Int32)) * a2) - (0 : Int32))) ∧ (¬ a2 ≤ r17 → Q (((r3 + (1 : Int32)) * a2) - (4 : Int32)))))))
theorem mX6_hasBy {G : jG} {l : Launch} (htr : l.stackTraces = false) {sh : List jH} {V : Nat → Nat → Int32} {R : Nat → Nat → Option Nat} {t : Nat} (hT : jReg shX6 sh t) {a1 : Int32} {a2 : Int32} {Q : Int32 → Prop} (hw : wX6_hasBy t V a1 a2 Q) : JM G l MX6_hasBy 1 0 0 [.ref t, .int a1, .int a2] (mk sh V R) (jRd (mk sh V R) Q) jNo := by
  refine JM.intro (by decide) rfl htr (Nat.le_of_ble_eq_true rfl) ?_
  show J G l MX6_hasBy 1 0 0 0 [(0, .ref t), (1, .int a1), (2, .int a2)] [] (mk sh V R) _ _
  unfold wX6_hasBy at hw
  refine J.aload_n 0 dX6_hasBy_0 rfl ?_
  refine J.iload_n 1 dX6_hasBy_1 rfl ?_
  refine J.iconst (v := (0 : Int32)) dX6_hasBy_2 (by decide) ?_
  refine kX6_68 rfl htr hT dX6_hasBy_3 (by omega) (Nat.le_of_ble_eq_true rfl) hw (fun r3 hw => ?_)
  refine J.iconst (v := (1 : Int32)) dX6_hasBy_6 (by decide) ?_
  refine J.iadd dX6_hasBy_7 ?_
  refine J.iload_n 2 dX6_hasBy_8 rfl ?_
  refine J.imul dX6_hasBy_9 ?_
  refine J.iload_n 2 dX6_hasBy_10 rfl ?_
  refine J.aload_n 0 dX6_hasBy_11 rfl ?_
  refine J.iload_n 1 dX6_hasBy_12 rfl ?_
  refine J.iconst (v := (1 : Int32)) dX6_hasBy_13 (by decide) ?_
  refine kX6_68 rfl htr hT dX6_hasBy_14 (by omega) (Nat.le_of_ble_eq_true rfl) hw (fun r14 hw => ?_)
  refine kX6_303 rfl htr dX6_hasBy_17 (by omega) (Nat.le_of_ble_eq_true rfl) hw (fun r17 hw => ?_)
  refine J.icmp_le 27 dX6_hasBy_20 (by decide) ⟨fun c20 => ?_, fun c20 => ?_⟩
  · have hw := hw.1 c20
    refine J.iconst (v := (0 : Int32)) dX6_hasBy_27 (by decide) ?_
    refine J.isub dX6_hasBy_28 ?_
    exact J.iret rfl dX6_hasBy_29 ⟨rfl, _, rfl, hw⟩
  · have hw := hw.2 c20
    refine J.iconst (v := (4 : Int32)) dX6_hasBy_23 (by decide) ?_
    refine J.goto 28 dX6_hasBy_24 (by decide) ?_
    refine J.isub dX6_hasBy_28 ?_
    exact J.iret rfl dX6_hasBy_29 ⟨rfl, _, rfl, hw⟩
-- VisitingHoursModel.isLetBy(II)Z
abbrev MX6_isLetBy : jM := (yX6_isLetBy, cX6_isLetBy, 4, some .boolean, [])
def wX6_isLetBy (a1 : Int32) (a2 : Int32) (Q : Int32 → Prop) : Prop :=
  (∀ y4 : Int32, y4 = (a1 >>> ((6 : Int32) &&& 31)) → (∀ y9 : Int32, y9 = (a1 &&& (63 : Int32)) → ((¬ (a2 &&& y4) = y4 → Q (0 : Int32)) ∧ ((a2 &&& y4) = y4 → ((¬ (a2 &&& y9) = 0 → Q (0 : Int32)) ∧ ((a2 &&& y9) = 0 → Q (1 : Int32)))))))
theorem mX6_isLetBy {G : jG} {l : Launch} (htr : l.stackTraces = false) {sh : List jH} {V : Nat → Nat → Int32} {R : Nat → Nat → Option Nat} {a1 : Int32} {a2 : Int32} {Q : Int32 → Prop} (hw : wX6_isLetBy a1 a2 Q) : JM G l MX6_isLetBy 0 0 0 [.int a1, .int a2] (mk sh V R) (jRd (mk sh V R) Q) jNo := by
  refine JM.intro (by decide) rfl htr (Nat.le_of_ble_eq_true rfl) ?_
  show J G l MX6_isLetBy 0 0 0 0 [(0, .int a1), (1, .int a2)] [] (mk sh V R) _ _
  unfold wX6_isLetBy at hw
  refine J.iload_n 0 dX6_isLetBy_0 rfl ?_
  refine J.bipush (v := (6 : Int32)) dX6_isLetBy_1 (by decide) ?_
  refine J.ishr dX6_isLetBy_3 ?_
  refine J.nm hw (fun y4 hw => ?_)
  refine J.istore_n (lv' := [(2, .int y4), (0, .int a1), (1, .int a2)]) dX6_isLetBy_4 (by decide) rfl ?_
  refine J.iload_n 1 dX6_isLetBy_5 rfl ?_
  refine J.bipush (v := (63 : Int32)) dX6_isLetBy_6 (by decide) ?_
  refine J.iand dX6_isLetBy_8 ?_
  refine J.nm hw (fun y9 hw => ?_)
  refine J.istore_n (lv' := [(3, .int y9), (2, .int y4), (0, .int a1), (1, .int a2)]) dX6_isLetBy_9 (by decide) rfl ?_
  refine J.iload_n 3 dX6_isLetBy_10 rfl ?_
  refine J.iload_n 1 dX6_isLetBy_11 rfl ?_
  refine J.iand dX6_isLetBy_12 ?_
  refine J.iload_n 1 dX6_isLetBy_13 rfl ?_
  refine J.icmp_ne 27 dX6_isLetBy_14 (by decide) ⟨fun c14 => ?_, fun c14 => ?_⟩
  · have hw := hw.1 c14
    refine J.iconst (v := (0 : Int32)) dX6_isLetBy_27 (by decide) ?_
    exact J.zret rfl rfl dX6_isLetBy_28 ⟨rfl, _, rfl, hw⟩
  · have hw := hw.2 c14
    refine J.iload_n 3 dX6_isLetBy_17 rfl ?_
    refine J.iload_n 0 dX6_isLetBy_18 rfl ?_
    refine J.iand dX6_isLetBy_19 ?_
    refine J.if_ne 27 dX6_isLetBy_20 (by decide) ⟨fun c20 => ?_, fun c20 => ?_⟩
    · have hw := hw.1 c20
      refine J.iconst (v := (0 : Int32)) dX6_isLetBy_27 (by decide) ?_
      exact J.zret rfl rfl dX6_isLetBy_28 ⟨rfl, _, rfl, hw⟩
    · have hw := hw.2 c20
      refine J.iconst (v := (1 : Int32)) dX6_isLetBy_23 (by decide) ?_
      refine J.goto 28 dX6_isLetBy_24 (by decide) ?_
      exact J.zret rfl rfl dX6_isLetBy_28 ⟨rfl, _, rfl, hw⟩
theorem gX6_47 {G : jG} {l : Launch} {M : jM} {d c n pc : Nat} {lv : List (Nat × Value)} {st : List Value} {sh : List jH} {V : Nat → Nat → Int32} {R : Nat → Nat → Option Nat} {post : Option Value → List jC → Prop} {xp : String → List jC → Prop} {t : Nat} (hM : M.1.cls = RX6) (hT : jReg shX6 sh t) (hd : decode M.2.1 pc = .ok (.getfield 47, 3)) (kk : J G l M d c n (pc + 3) lv (.ref (t + 12) :: st) (mk sh V R) post xp) : J G l M d c n pc lv (.ref t :: st) (mk sh V R) post xp := JV.getf (C := RX6) (T0 := TX6) (N := 28) 26 hd hT.1 (hT.at 0 rfl) rfl in_X6 (by decide) (by rw [hM]; exact q2154) rfl rfl kk
theorem kX6_396 {G : jG} {l : Launch} {M : jM} {d c n pc : Nat} {lv : List (Nat × Value)} {rest : List Value} {post : Option Value → List jC → Prop} {xp : String → List jC → Prop} (hM : M.1.cls = RX6) (htr : l.stackTraces = false) {sh : List jH} {V : Nat → Nat → Int32} {R : Nat → Nat → Option Nat} {a1 : Int32} {a2 : Int32} {Q : Int32 → Prop} (hd : decode M.2.1 pc = .ok (.invokestatic 396, 3)) (hdd : 0 + 1 ≤ d) (hw8 : (rest.map fun v => v.category).sum ≤ 8) (hw : wX6_isLetBy a1 a2 Q) (kk : ∀ r, Q r → J G l M d c n (pc + 3) lv (.int r :: rest) (mk sh V R) post xp) : J G l M d c n pc lv (.int a2 :: .int a1 :: rest) (mk sh V R) post xp :=
  J.callS (As := [.int a1, .int a2]) (hcw := by rw [hM]; exact lw_S q2656 q2657 q152 q2658) (mX6_isLetBy htr hw) hd rfl ⟨by decide, by decide, by show _ = some 2; decide +kernel⟩ hw8 ⟨hdd, by decide⟩ jcc0 (fun r9 g9 h9 => by obtain ⟨rfl, r, rfl, h⟩ := h9; exact kk r h) jNo.x
-- VisitingHoursModel.heard()I
abbrev MX6_heard : jM := (yX6_heard, cX6_heard, 6, some .int, [])
def wX6_heard_187 (t : Nat) (Q : Int32 → (Nat → Nat → Int32) → Prop) (K83 : (Nat → Nat → Int32) → Int32 → Int32 → Int32 → Prop) (V : Nat → Nat → Int32) (x1 : Int32) (x3 : Int32) (x4 : Int32) : Prop :=
  (vp_in x4 4096 ∧ (((V (t + 12) x4.toNatClampNeg) = 0 → (∀ y204 : Int32, y204 = (x3 + (0 : Int32)) → (∀ y205 : Int32, y205 = x4 + (1 : Int32) → K83 V x1 y204 y205))) ∧ (¬ (V (t + 12) x4.toNatClampNeg) = 0 → (∀ y204 : Int32, y204 = (x3 + (1 : Int32)) → (∀ y205 : Int32, y205 = x4 + (1 : Int32) → K83 V x1 y204 y205)))))
theorem rX6_heard_187 {G : jG} {l : Launch} {d c n : Nat} (htr : l.stackTraces = false) (hdd : 1 ≤ d) {sh : List jH} {t : Nat} (hT : jReg shX6 sh t) {R : Nat → Nat → Option Nat} {Q : Int32 → (Nat → Nat → Int32) → Prop} {K83 : (Nat → Nat → Int32) → Int32 → Int32 → Int32 → Prop} (hK83 : ∀ (V : Nat → Nat → Int32) (x1 : Int32) (x3 : Int32) (x4 : Int32), K83 V x1 x3 x4 → J G l MX6_heard d c n 83 [(0, .ref t), (1, .int x1), (3, .int x3), (4, .int x4)] [] (mk sh V R) (jWr sh R Q) jNo) {V : Nat → Nat → Int32} {x1 : Int32} {x3 : Int32} {x4 : Int32} (hw : wX6_heard_187 t Q K83 V x1 x3 x4) : J G l MX6_heard d c n 187 [(0, .ref t), (1, .int x1), (3, .int x3), (4, .int x4)] [] (mk sh V R) (jWr sh R Q) jNo := by
  unfold wX6_heard_187 at hw
  refine J.iload_n 2 dX6_heard_187 rfl ?_
  refine J.aload_n 0 dX6_heard_188 rfl ?_
  refine gX6_47 rfl hT dX6_heard_189 ?_
  refine J.iload 3 dX6_heard_192 rfl ?_
  obtain ⟨h194, hw⟩ := hw
  refine JV.zald dX6_heard_194 (hT.ge 12) (hT.at 12 rfl) h194 ?_
  refine J.if_eq 202 dX6_heard_195 (by decide) ⟨fun c195 => ?_, fun c195 => ?_⟩
  · have hw := hw.1 c195
    refine J.iconst (v := (0 : Int32)) dX6_heard_202 (by decide) ?_
    refine J.iadd dX6_heard_203 ?_
    refine J.nm hw (fun y204 hw => ?_)
    refine J.istore_n (lv' := [(3, .int y204), (0, .ref t), (1, .int x1), (4, .int x4)]) dX6_heard_204 (by decide) rfl ?_
    refine J.iincN 3 (K := (1 : Int32)) (lv' := fun y205 => [(4, .int y205), (3, .int y204), (0, .ref t), (1, .int x1)]) dX6_heard_205 rfl (by decide) (by decide) (fun _ => rfl) hw (fun y205 hw => ?_)
    refine J.goto 83 dX6_heard_208 (by decide) ?_
    exact J.pick [2, 3, 1, 0] rfl (hK83 _ _ _ _ hw)
  · have hw := hw.2 c195
    refine J.iconst (v := (1 : Int32)) dX6_heard_198 (by decide) ?_
    refine J.goto 203 dX6_heard_199 (by decide) ?_
    refine J.iadd dX6_heard_203 ?_
    refine J.nm hw (fun y204 hw => ?_)
    refine J.istore_n (lv' := [(3, .int y204), (0, .ref t), (1, .int x1), (4, .int x4)]) dX6_heard_204 (by decide) rfl ?_
    refine J.iincN 3 (K := (1 : Int32)) (lv' := fun y205 => [(4, .int y205), (3, .int y204), (0, .ref t), (1, .int x1)]) dX6_heard_205 rfl (by decide) (by decide) (fun _ => rfl) hw (fun y205 hw => ?_)
    refine J.goto 83 dX6_heard_208 (by decide) ?_
    exact J.pick [2, 3, 1, 0] rfl (hK83 _ _ _ _ hw)
def wX6_heard_180 (t : Nat) (Q : Int32 → (Nat → Nat → Int32) → Prop) (K83 : (Nat → Nat → Int32) → Int32 → Int32 → Int32 → Prop) (K120 : (Nat → Nat → Int32) → Int32 → Int32 → Int32 → Int32 → Prop) (V : Nat → Nat → Int32) (x1 : Int32) (x3 : Int32) (x4 : Int32) (x5 : Int32) (s1 : Int32) (s2 : Int32) : Prop :=
  (vp_in s1 4096 ∧ (∀ y181 : Int32, y181 = x5 + (2 : Int32) → K120 (vset V (t + 12) s1.toNatClampNeg (vp_nar .boolean s2)) x1 x3 x4 y181))
theorem rX6_heard_180 {G : jG} {l : Launch} {d c n : Nat} (htr : l.stackTraces = false) (hdd : 1 ≤ d) {sh : List jH} {t : Nat} (hT : jReg shX6 sh t) {R : Nat → Nat → Option Nat} {Q : Int32 → (Nat → Nat → Int32) → Prop} {K83 : (Nat → Nat → Int32) → Int32 → Int32 → Int32 → Prop} {K120 : (Nat → Nat → Int32) → Int32 → Int32 → Int32 → Int32 → Prop} (hK83 : ∀ (V : Nat → Nat → Int32) (x1 : Int32) (x3 : Int32) (x4 : Int32), K83 V x1 x3 x4 → J G l MX6_heard d c n 83 [(0, .ref t), (1, .int x1), (3, .int x3), (4, .int x4)] [] (mk sh V R) (jWr sh R Q) jNo) (hK120 : ∀ (V : Nat → Nat → Int32) (x1 : Int32) (x3 : Int32) (x4 : Int32) (x5 : Int32), K120 V x1 x3 x4 x5 → J G l MX6_heard d c n 120 [(0, .ref t), (1, .int x1), (3, .int x3), (4, .int x4), (5, .int x5)] [] (mk sh V R) (jWr sh R Q) jNo) {V : Nat → Nat → Int32} {x1 : Int32} {x3 : Int32} {x4 : Int32} {x5 : Int32} {s1 : Int32} {s2 : Int32} (hw : wX6_heard_180 t Q K83 K120 V x1 x3 x4 x5 s1 s2) : J G l MX6_heard d c n 180 [(0, .ref t), (1, .int x1), (3, .int x3), (4, .int x4), (5, .int x5)] [.int s2, .int s1, .ref (t + 12)] (mk sh V R) (jWr sh R Q) jNo := by
  unfold wX6_heard_180 at hw
  obtain ⟨h180, hw⟩ := hw
  refine JV.zast dX6_heard_180 (hT.ge 12) (hT.at 12 rfl) h180 ?_
  refine J.iincN 4 (K := (2 : Int32)) (lv' := fun y181 => [(5, .int y181), (0, .ref t), (1, .int x1), (3, .int x3), (4, .int x4)]) dX6_heard_181 rfl (by decide) (by decide) (fun _ => rfl) hw (fun y181 hw => ?_)
  refine J.goto 120 dX6_heard_184 (by decide) ?_
  exact J.pick [1, 2, 3, 4, 0] rfl (hK120 _ _ _ _ _ hw)
def wX6_heard_172 (t : Nat) (Q : Int32 → (Nat → Nat → Int32) → Prop) (K83 : (Nat → Nat → Int32) → Int32 → Int32 → Int32 → Prop) (K120 : (Nat → Nat → Int32) → Int32 → Int32 → Int32 → Int32 → Prop) (V : Nat → Nat → Int32) (x1 : Int32) (x3 : Int32) (x4 : Int32) (x5 : Int32) (s1 : Int32) (s2 : Int32) (s3 : Int32) : Prop :=
  ((¬ s2 = s3 → wX6_heard_180 t Q K83 K120 V x1 x3 x4 x5 s1 (0 : Int32)) ∧ (s2 = s3 → wX6_heard_180 t Q K83 K120 V x1 x3 x4 x5 s1 (1 : Int32)))
theorem rX6_heard_172 {G : jG} {l : Launch} {d c n : Nat} (htr : l.stackTraces = false) (hdd : 1 ≤ d) {sh : List jH} {t : Nat} (hT : jReg shX6 sh t) {R : Nat → Nat → Option Nat} {Q : Int32 → (Nat → Nat → Int32) → Prop} {K83 : (Nat → Nat → Int32) → Int32 → Int32 → Int32 → Prop} {K120 : (Nat → Nat → Int32) → Int32 → Int32 → Int32 → Int32 → Prop} (hK83 : ∀ (V : Nat → Nat → Int32) (x1 : Int32) (x3 : Int32) (x4 : Int32), K83 V x1 x3 x4 → J G l MX6_heard d c n 83 [(0, .ref t), (1, .int x1), (3, .int x3), (4, .int x4)] [] (mk sh V R) (jWr sh R Q) jNo) (hK120 : ∀ (V : Nat → Nat → Int32) (x1 : Int32) (x3 : Int32) (x4 : Int32) (x5 : Int32), K120 V x1 x3 x4 x5 → J G l MX6_heard d c n 120 [(0, .ref t), (1, .int x1), (3, .int x3), (4, .int x4), (5, .int x5)] [] (mk sh V R) (jWr sh R Q) jNo) {V : Nat → Nat → Int32} {x1 : Int32} {x3 : Int32} {x4 : Int32} {x5 : Int32} {s1 : Int32} {s2 : Int32} {s3 : Int32} (hw : wX6_heard_172 t Q K83 K120 V x1 x3 x4 x5 s1 s2 s3) : J G l MX6_heard d c n 172 [(0, .ref t), (1, .int x1), (3, .int x3), (4, .int x4), (5, .int x5)] [.int s3, .int s2, .int s1, .ref (t + 12)] (mk sh V R) (jWr sh R Q) jNo := by
  unfold wX6_heard_172 at hw
  refine J.icmp_ne 179 dX6_heard_172 (by decide) ⟨fun c172 => ?_, fun c172 => ?_⟩
  · have hw := hw.1 c172
    refine J.iconst (v := (0 : Int32)) dX6_heard_179 (by decide) ?_
    exact (rX6_heard_180 htr hdd hT hK83 hK120 hw)
  · have hw := hw.2 c172
    refine J.iconst (v := (1 : Int32)) dX6_heard_175 (by decide) ?_
    refine J.goto 180 dX6_heard_176 (by decide) ?_
    exact (rX6_heard_180 htr hdd hT hK83 hK120 hw)
def wX6_heard_120 (t : Nat) (Q : Int32 → (Nat → Nat → Int32) → Prop) (K83 : (Nat → Nat → Int32) → Int32 → Int32 → Int32 → Prop) : Nat → (Nat → Nat → Int32) → Int32 → Int32 → Int32 → Int32 → Prop
  | 0, _, _, _, _, _ => False
  | f + 1, V, x1, x3, x4, x5 =>
    ((x1 ≤ x5 → wX6_heard_187 t Q K83 V x1 x3 x4) ∧ (¬ x1 ≤ x5 → (vp_in x4 4096 ∧ (((V (t + 12) x4.toNatClampNeg) = 0 → wX6_heard_187 t Q K83 V x1 x3 x4) ∧ (¬ (V (t + 12) x4.toNatClampNeg) = 0 → (vp_in x5 400 ∧ wX6_isLetBy x4 (V (t + 5) x5.toNatClampNeg) (fun r151 => (vp_in (x5 + (1 : Int32)) 400 ∧ ((¬ (V (t + 5) (x5 + (1 : Int32)).toNatClampNeg) = (1 : Int32) → wX6_heard_172 t Q K83 (fun V x1 x3 x4 x5 => wX6_heard_120 t Q K83 f V x1 x3 x4 x5) V x1 x3 x4 x5 x4 r151 (0 : Int32)) ∧ ((V (t + 5) (x5 + (1 : Int32)).toNatClampNeg) = (1 : Int32) → wX6_heard_172 t Q K83 (fun V x1 x3 x4 x5 => wX6_heard_120 t Q K83 f V x1 x3 x4 x5) V x1 x3 x4 x5 x4 r151 (1 : Int32)))))))))))
theorem rX6_heard_120 {G : jG} {l : Launch} {d c n : Nat} (htr : l.stackTraces = false) (hdd : 1 ≤ d) {sh : List jH} {t : Nat} (hT : jReg shX6 sh t) {R : Nat → Nat → Option Nat} {Q : Int32 → (Nat → Nat → Int32) → Prop} {K83 : (Nat → Nat → Int32) → Int32 → Int32 → Int32 → Prop} (hK83 : ∀ (V : Nat → Nat → Int32) (x1 : Int32) (x3 : Int32) (x4 : Int32), K83 V x1 x3 x4 → J G l MX6_heard d c n 83 [(0, .ref t), (1, .int x1), (3, .int x3), (4, .int x4)] [] (mk sh V R) (jWr sh R Q) jNo) : ∀ (f : Nat) (V : Nat → Nat → Int32) (x1 : Int32) (x3 : Int32) (x4 : Int32) (x5 : Int32), wX6_heard_120 t Q K83 f V x1 x3 x4 x5 → J G l MX6_heard d c n 120 [(0, .ref t), (1, .int x1), (3, .int x3), (4, .int x4), (5, .int x5)] [] (mk sh V R) (jWr sh R Q) jNo := by
  intro f
  induction f with
  | zero =>
    intro V x1 x3 x4 x5 hw
    rw [wX6_heard_120] at hw
    exact hw.elim
  | succ f ih =>
    intro V x1 x3 x4 x5 hw
    rw [wX6_heard_120] at hw
    refine J.iload 4 dX6_heard_120 rfl ?_
    refine J.iload_n 1 dX6_heard_122 rfl ?_
    refine J.icmp_ge 187 dX6_heard_123 (by decide) ⟨fun c123 => ?_, fun c123 => ?_⟩
    · have hw := hw.1 c123
      exact J.pick [0, 1, 2, 3] rfl (rX6_heard_187 htr hdd hT hK83 hw)
    · have hw := hw.2 c123
      refine J.aload_n 0 dX6_heard_126 rfl ?_
      refine gX6_47 rfl hT dX6_heard_127 ?_
      refine J.iload 3 dX6_heard_130 rfl ?_
      obtain ⟨h132, hw⟩ := hw
      refine JV.zald dX6_heard_132 (hT.ge 12) (hT.at 12 rfl) h132 ?_
      refine J.if_eq 187 dX6_heard_133 (by decide) ⟨fun c133 => ?_, fun c133 => ?_⟩
      · have hw := hw.1 c133
        exact J.pick [0, 1, 2, 3] rfl (rX6_heard_187 htr hdd hT hK83 hw)
      · have hw := hw.2 c133
        refine J.aload_n 0 dX6_heard_136 rfl ?_
        refine gX6_47 rfl hT dX6_heard_137 ?_
        refine J.iload 3 dX6_heard_140 rfl ?_
        refine J.iload 3 dX6_heard_142 rfl ?_
        refine J.aload_n 0 dX6_heard_144 rfl ?_
        refine gX6_22 rfl hT dX6_heard_145 ?_
        refine J.iload 4 dX6_heard_148 rfl ?_
        obtain ⟨h150, hw⟩ := hw
        refine JV.iald dX6_heard_150 (hT.ge 5) (hT.at 5 rfl) h150 ?_
        refine kX6_396 rfl htr dX6_heard_151 (by omega) (Nat.le_of_ble_eq_true rfl) hw (fun r151 hw => ?_)
        refine J.aload_n 0 dX6_heard_154 rfl ?_
        refine gX6_22 rfl hT dX6_heard_155 ?_
        refine J.iload 4 dX6_heard_158 rfl ?_
        refine J.iconst (v := (1 : Int32)) dX6_heard_160 (by decide) ?_
        refine J.iadd dX6_heard_161 ?_
        obtain ⟨h162, hw⟩ := hw
        refine JV.iald dX6_heard_162 (hT.ge 5) (hT.at 5 rfl) h162 ?_
        refine J.iconst (v := (1 : Int32)) dX6_heard_163 (by decide) ?_
        refine J.icmp_ne 171 dX6_heard_164 (by decide) ⟨fun c164 => ?_, fun c164 => ?_⟩
        · have hw := hw.1 c164
          refine J.iconst (v := (0 : Int32)) dX6_heard_171 (by decide) ?_
          exact (rX6_heard_172 htr hdd hT hK83 ih hw)
        · have hw := hw.2 c164
          refine J.iconst (v := (1 : Int32)) dX6_heard_167 (by decide) ?_
          refine J.goto 172 dX6_heard_168 (by decide) ?_
          exact (rX6_heard_172 htr hdd hT hK83 ih hw)
def wX6_heard_116 (t : Nat) (Q : Int32 → (Nat → Nat → Int32) → Prop) (K83 : (Nat → Nat → Int32) → Int32 → Int32 → Int32 → Prop) (V : Nat → Nat → Int32) (x1 : Int32) (x3 : Int32) (x4 : Int32) (s1 : Int32) (s2 : Int32) : Prop :=
  (vp_in s1 4096 ∧ (∃ f9, wX6_heard_120 t Q K83 f9 (vset V (t + 12) s1.toNatClampNeg (vp_nar .boolean s2)) x1 x3 x4 (0 : Int32)))
theorem rX6_heard_116 {G : jG} {l : Launch} {d c n : Nat} (htr : l.stackTraces = false) (hdd : 1 ≤ d) {sh : List jH} {t : Nat} (hT : jReg shX6 sh t) {R : Nat → Nat → Option Nat} {Q : Int32 → (Nat → Nat → Int32) → Prop} {K83 : (Nat → Nat → Int32) → Int32 → Int32 → Int32 → Prop} (hK83 : ∀ (V : Nat → Nat → Int32) (x1 : Int32) (x3 : Int32) (x4 : Int32), K83 V x1 x3 x4 → J G l MX6_heard d c n 83 [(0, .ref t), (1, .int x1), (3, .int x3), (4, .int x4)] [] (mk sh V R) (jWr sh R Q) jNo) {V : Nat → Nat → Int32} {x1 : Int32} {x3 : Int32} {x4 : Int32} {s1 : Int32} {s2 : Int32} (hw : wX6_heard_116 t Q K83 V x1 x3 x4 s1 s2) : J G l MX6_heard d c n 116 [(0, .ref t), (1, .int x1), (3, .int x3), (4, .int x4)] [.int s2, .int s1, .ref (t + 12)] (mk sh V R) (jWr sh R Q) jNo := by
  unfold wX6_heard_116 at hw
  obtain ⟨h116, hw⟩ := hw
  refine JV.zast dX6_heard_116 (hT.ge 12) (hT.at 12 rfl) h116 ?_
  refine J.iconst (v := (0 : Int32)) dX6_heard_117 (by decide) ?_
  refine J.istore (lv' := [(5, .int (0 : Int32)), (0, .ref t), (1, .int x1), (3, .int x3), (4, .int x4)]) dX6_heard_118 (by decide) rfl ?_
  obtain ⟨f9, hw⟩ := hw
  exact J.pick [1, 2, 3, 4, 0] rfl (rX6_heard_120 htr hdd hT hK83 f9 _ _ _ _ _ hw)
def wX6_heard_83 (t : Nat) (Q : Int32 → (Nat → Nat → Int32) → Prop) : Nat → (Nat → Nat → Int32) → Int32 → Int32 → Int32 → Prop
  | 0, _, _, _, _ => False
  | f + 1, V, x1, x3, x4 =>
    (((4096 : Int32) ≤ x4 → Q x3 V) ∧ (¬ (4096 : Int32) ≤ x4 → ((¬ (((x4 >>> ((6 : Int32) &&& 31)) &&& x4) &&& (63 : Int32)) = 0 → wX6_heard_116 t Q (fun V x1 x3 x4 => wX6_heard_83 t Q f V x1 x3 x4) V x1 x3 x4 x4 (0 : Int32)) ∧ ((((x4 >>> ((6 : Int32) &&& 31)) &&& x4) &&& (63 : Int32)) = 0 → wX6_heard_116 t Q (fun V x1 x3 x4 => wX6_heard_83 t Q f V x1 x3 x4) V x1 x3 x4 x4 (1 : Int32)))))
theorem rX6_heard_83 {G : jG} {l : Launch} {d c n : Nat} (htr : l.stackTraces = false) (hdd : 1 ≤ d) {sh : List jH} {t : Nat} (hT : jReg shX6 sh t) {R : Nat → Nat → Option Nat} {Q : Int32 → (Nat → Nat → Int32) → Prop} : ∀ (f : Nat) (V : Nat → Nat → Int32) (x1 : Int32) (x3 : Int32) (x4 : Int32), wX6_heard_83 t Q f V x1 x3 x4 → J G l MX6_heard d c n 83 [(0, .ref t), (1, .int x1), (3, .int x3), (4, .int x4)] [] (mk sh V R) (jWr sh R Q) jNo := by
  intro f
  induction f with
  | zero =>
    intro V x1 x3 x4 hw
    rw [wX6_heard_83] at hw
    exact hw.elim
  | succ f ih =>
    intro V x1 x3 x4 hw
    rw [wX6_heard_83] at hw
    refine J.iload 3 dX6_heard_83 rfl ?_
    refine J.sipush (v := (4096 : Int32)) dX6_heard_85 (by decide) ?_
    refine J.icmp_ge 211 dX6_heard_88 (by decide) ⟨fun c88 => ?_, fun c88 => ?_⟩
    · have hw := hw.1 c88
      refine J.iload_n 2 dX6_heard_211 rfl ?_
      exact J.iret rfl dX6_heard_212 ⟨_, rfl, _, rfl, hw⟩
    · have hw := hw.2 c88
      refine J.aload_n 0 dX6_heard_91 rfl ?_
      refine gX6_47 rfl hT dX6_heard_92 ?_
      refine J.iload 3 dX6_heard_95 rfl ?_
      refine J.iload 3 dX6_heard_97 rfl ?_
      refine J.bipush (v := (6 : Int32)) dX6_heard_99 (by decide) ?_
      refine J.ishr dX6_heard_101 ?_
      refine J.iload 3 dX6_heard_102 rfl ?_
      refine J.iand dX6_heard_104 ?_
      refine J.bipush (v := (63 : Int32)) dX6_heard_105 (by decide) ?_
      refine J.iand dX6_heard_107 ?_
      refine J.if_ne 115 dX6_heard_108 (by decide) ⟨fun c108 => ?_, fun c108 => ?_⟩
      · have hw := hw.1 c108
        refine J.iconst (v := (0 : Int32)) dX6_heard_115 (by decide) ?_
        exact (rX6_heard_116 htr hdd hT ih hw)
      · have hw := hw.2 c108
        refine J.iconst (v := (1 : Int32)) dX6_heard_111 (by decide) ?_
        refine J.goto 116 dX6_heard_112 (by decide) ?_
        exact (rX6_heard_116 htr hdd hT ih hw)
def wX6_heard_72 (t : Nat) (Q : Int32 → (Nat → Nat → Int32) → Prop) (V : Nat → Nat → Int32) (x1 : Int32) (x2 : Int32) : Prop :=
  ((¬ x2 = 0 → (∃ f9, wX6_heard_83 t Q f9 V x1 (0 : Int32) (0 : Int32))) ∧ (x2 = 0 → Q (-1 : Int32) V))
theorem rX6_heard_72 {G : jG} {l : Launch} {d c n : Nat} (htr : l.stackTraces = false) (hdd : 1 ≤ d) {sh : List jH} {t : Nat} (hT : jReg shX6 sh t) {R : Nat → Nat → Option Nat} {Q : Int32 → (Nat → Nat → Int32) → Prop} {V : Nat → Nat → Int32} {x1 : Int32} {x2 : Int32} (hw : wX6_heard_72 t Q V x1 x2) : J G l MX6_heard d c n 72 [(0, .ref t), (1, .int x1), (2, .int x2)] [] (mk sh V R) (jWr sh R Q) jNo := by
  unfold wX6_heard_72 at hw
  refine J.iload_n 2 dX6_heard_72 rfl ?_
  refine J.if_ne 78 dX6_heard_73 (by decide) ⟨fun c73 => ?_, fun c73 => ?_⟩
  · have hw := hw.1 c73
    refine J.iconst (v := (0 : Int32)) dX6_heard_78 (by decide) ?_
    refine J.istore_n (lv' := [(3, .int (0 : Int32)), (0, .ref t), (1, .int x1), (2, .int x2)]) dX6_heard_79 (by decide) rfl ?_
    refine J.iconst (v := (0 : Int32)) dX6_heard_80 (by decide) ?_
    refine J.istore (lv' := [(4, .int (0 : Int32)), (3, .int (0 : Int32)), (0, .ref t), (1, .int x1), (2, .int x2)]) dX6_heard_81 (by decide) rfl ?_
    obtain ⟨f9, hw⟩ := hw
    exact J.pick [2, 3, 1, 0] rfl (rX6_heard_83 htr hdd hT f9 _ _ _ _ hw)
  · have hw := hw.2 c73
    refine J.iconst (v := (-1 : Int32)) dX6_heard_76 (by decide) ?_
    exact J.iret rfl dX6_heard_77 ⟨_, rfl, _, rfl, hw⟩
def wX6_heard_57 (t : Nat) (Q : Int32 → (Nat → Nat → Int32) → Prop) (K30 : (Nat → Nat → Int32) → Int32 → Int32 → Int32 → Prop) (V : Nat → Nat → Int32) (x1 : Int32) (x3 : Int32) (s0 : Int32) (s1 : Int32) : Prop :=
  ((s1 ≤ s0 → (∀ y66 : Int32, y66 = x3 + (1 : Int32) → K30 V x1 (0 : Int32) y66)) ∧ (¬ s1 ≤ s0 → (∀ y66 : Int32, y66 = x3 + (1 : Int32) → K30 V x1 (1 : Int32) y66)))
theorem rX6_heard_57 {G : jG} {l : Launch} {d c n : Nat} (htr : l.stackTraces = false) (hdd : 1 ≤ d) {sh : List jH} {t : Nat} (hT : jReg shX6 sh t) {R : Nat → Nat → Option Nat} {Q : Int32 → (Nat → Nat → Int32) → Prop} {K30 : (Nat → Nat → Int32) → Int32 → Int32 → Int32 → Prop} (hK30 : ∀ (V : Nat → Nat → Int32) (x1 : Int32) (x2 : Int32) (x3 : Int32), K30 V x1 x2 x3 → J G l MX6_heard d c n 30 [(0, .ref t), (1, .int x1), (2, .int x2), (3, .int x3)] [] (mk sh V R) (jWr sh R Q) jNo) {V : Nat → Nat → Int32} {x1 : Int32} {x3 : Int32} {s0 : Int32} {s1 : Int32} (hw : wX6_heard_57 t Q K30 V x1 x3 s0 s1) : J G l MX6_heard d c n 57 [(0, .ref t), (1, .int x1), (3, .int x3)] [.int s1, .int s0] (mk sh V R) (jWr sh R Q) jNo := by
  unfold wX6_heard_57 at hw
  refine J.icmp_ge 64 dX6_heard_57 (by decide) ⟨fun c57 => ?_, fun c57 => ?_⟩
  · have hw := hw.1 c57
    refine J.iconst (v := (0 : Int32)) dX6_heard_64 (by decide) ?_
    refine J.istore_n (lv' := [(2, .int (0 : Int32)), (0, .ref t), (1, .int x1), (3, .int x3)]) dX6_heard_65 (by decide) rfl ?_
    refine J.iincN 3 (K := (1 : Int32)) (lv' := fun y66 => [(3, .int y66), (2, .int (0 : Int32)), (0, .ref t), (1, .int x1)]) dX6_heard_66 rfl (by decide) (by decide) (fun _ => rfl) hw (fun y66 hw => ?_)
    refine J.goto 30 dX6_heard_69 (by decide) ?_
    exact J.pick [2, 3, 1, 0] rfl (hK30 _ _ _ _ hw)
  · have hw := hw.2 c57
    refine J.iconst (v := (1 : Int32)) dX6_heard_60 (by decide) ?_
    refine J.goto 65 dX6_heard_61 (by decide) ?_
    refine J.istore_n (lv' := [(2, .int (1 : Int32)), (0, .ref t), (1, .int x1), (3, .int x3)]) dX6_heard_65 (by decide) rfl ?_
    refine J.iincN 3 (K := (1 : Int32)) (lv' := fun y66 => [(3, .int y66), (2, .int (1 : Int32)), (0, .ref t), (1, .int x1)]) dX6_heard_66 rfl (by decide) (by decide) (fun _ => rfl) hw (fun y66 hw => ?_)
    refine J.goto 30 dX6_heard_69 (by decide) ?_
    exact J.pick [2, 3, 1, 0] rfl (hK30 _ _ _ _ hw)
def wX6_heard_30 (t : Nat) (Q : Int32 → (Nat → Nat → Int32) → Prop) : Nat → (Nat → Nat → Int32) → Int32 → Int32 → Int32 → Prop
  | 0, _, _, _, _ => False
  | f + 1, V, x1, x2, x3 =>
    ((x1 ≤ x3 → wX6_heard_72 t Q V x1 x2) ∧ (¬ x1 ≤ x3 → ((x2 = 0 → wX6_heard_72 t Q V x1 x2) ∧ (¬ x2 = 0 → (vp_in x3 400 ∧ ((¬ (x3 - x3 / (2 : Int32) * (2 : Int32)) = 0 → wX6_heard_57 t Q (fun V x1 x2 x3 => wX6_heard_30 t Q f V x1 x2 x3) V x1 x3 (V (t + 5) x3.toNatClampNeg) (2 : Int32)) ∧ ((x3 - x3 / (2 : Int32) * (2 : Int32)) = 0 → wX6_heard_57 t Q (fun V x1 x2 x3 => wX6_heard_30 t Q f V x1 x2 x3) V x1 x3 (V (t + 5) x3.toNatClampNeg) (64 : Int32))))))))
theorem rX6_heard_30 {G : jG} {l : Launch} {d c n : Nat} (htr : l.stackTraces = false) (hdd : 1 ≤ d) {sh : List jH} {t : Nat} (hT : jReg shX6 sh t) {R : Nat → Nat → Option Nat} {Q : Int32 → (Nat → Nat → Int32) → Prop} : ∀ (f : Nat) (V : Nat → Nat → Int32) (x1 : Int32) (x2 : Int32) (x3 : Int32), wX6_heard_30 t Q f V x1 x2 x3 → J G l MX6_heard d c n 30 [(0, .ref t), (1, .int x1), (2, .int x2), (3, .int x3)] [] (mk sh V R) (jWr sh R Q) jNo := by
  intro f
  induction f with
  | zero =>
    intro V x1 x2 x3 hw
    rw [wX6_heard_30] at hw
    exact hw.elim
  | succ f ih =>
    intro V x1 x2 x3 hw
    rw [wX6_heard_30] at hw
    refine J.iload_n 3 dX6_heard_30 rfl ?_
    refine J.iload_n 1 dX6_heard_31 rfl ?_
    refine J.icmp_ge 72 dX6_heard_32 (by decide) ⟨fun c32 => ?_, fun c32 => ?_⟩
    · have hw := hw.1 c32
      exact J.pick [0, 1, 2] rfl (rX6_heard_72 htr hdd hT hw)
    · have hw := hw.2 c32
      refine J.iload_n 2 dX6_heard_35 rfl ?_
      refine J.if_eq 72 dX6_heard_36 (by decide) ⟨fun c36 => ?_, fun c36 => ?_⟩
      · have hw := hw.1 c36
        exact J.pick [0, 1, 2] rfl (rX6_heard_72 htr hdd hT hw)
      · have hw := hw.2 c36
        refine J.aload_n 0 dX6_heard_39 rfl ?_
        refine gX6_22 rfl hT dX6_heard_40 ?_
        refine J.iload_n 3 dX6_heard_43 rfl ?_
        obtain ⟨h44, hw⟩ := hw
        refine JV.iald dX6_heard_44 (hT.ge 5) (hT.at 5 rfl) h44 ?_
        refine J.iload_n 3 dX6_heard_45 rfl ?_
        refine J.iconst (v := (2 : Int32)) dX6_heard_46 (by decide) ?_
        refine J.irem dX6_heard_47 (by decide) ?_
        refine J.if_ne 56 dX6_heard_48 (by decide) ⟨fun c48 => ?_, fun c48 => ?_⟩
        · have hw := hw.1 c48
          refine J.iconst (v := (2 : Int32)) dX6_heard_56 (by decide) ?_
          exact J.pick [0, 1, 3] rfl (rX6_heard_57 htr hdd hT ih hw)
        · have hw := hw.2 c48
          refine J.bipush (v := (64 : Int32)) dX6_heard_51 (by decide) ?_
          refine J.goto 57 dX6_heard_53 (by decide) ?_
          exact J.pick [0, 1, 3] rfl (rX6_heard_57 htr hdd hT ih hw)
def wX6_heard (t : Nat) (V : Nat → Nat → Int32) (Q : Int32 → (Nat → Nat → Int32) → Prop) : Prop :=
  (∀ y4 : Int32, y4 = (V t 8) → ((¬ (y4 - y4 / (2 : Int32) * (2 : Int32)) = 0 → (∃ f9, wX6_heard_30 t Q f9 (vset V t 8 (0 : Int32)) y4 (0 : Int32) (0 : Int32))) ∧ ((y4 - y4 / (2 : Int32) * (2 : Int32)) = 0 → (((40 : Int32) < y4 → (∃ f9, wX6_heard_30 t Q f9 (vset V t 8 (0 : Int32)) y4 (0 : Int32) (0 : Int32))) ∧ (¬ (40 : Int32) < y4 → (∃ f9, wX6_heard_30 t Q f9 (vset V t 8 (0 : Int32)) y4 (1 : Int32) (0 : Int32)))))))
theorem mX6_heard {G : jG} {l : Launch} (htr : l.stackTraces = false) {sh : List jH} {V : Nat → Nat → Int32} {R : Nat → Nat → Option Nat} {t : Nat} (hT : jReg shX6 sh t) {Q : Int32 → (Nat → Nat → Int32) → Prop} (hw : wX6_heard t V Q) : JM G l MX6_heard 1 0 0 [.ref t] (mk sh V R) (jWr sh R Q) jNo := by
  refine JM.intro (by decide) rfl htr (Nat.le_of_ble_eq_true rfl) ?_
  show J G l MX6_heard 1 0 0 0 [(0, .ref t)] [] (mk sh V R) _ _
  unfold wX6_heard at hw
  refine J.aload_n 0 dX6_heard_0 rfl ?_
  refine gX6_81 rfl hT dX6_heard_1 ?_
  refine J.nm hw (fun y4 hw => ?_)
  refine J.istore_n (lv' := [(1, .int y4), (0, .ref t)]) dX6_heard_4 (by decide) rfl ?_
  refine J.aload_n 1 dX6_heard_5 rfl ?_
  refine J.iconst (v := (0 : Int32)) dX6_heard_6 (by decide) ?_
  refine pX6_81 rfl hT dX6_heard_7 ?_
  refine J.iload_n 0 dX6_heard_10 rfl ?_
  refine J.iconst (v := (2 : Int32)) dX6_heard_11 (by decide) ?_
  refine J.irem dX6_heard_12 (by decide) ?_
  refine J.if_ne 26 dX6_heard_13 (by decide) ⟨fun c13 => ?_, fun c13 => ?_⟩
  · have hw := hw.1 c13
    refine J.iconst (v := (0 : Int32)) dX6_heard_26 (by decide) ?_
    refine J.istore_n (lv' := [(2, .int (0 : Int32)), (1, .int y4), (0, .ref t)]) dX6_heard_27 (by decide) rfl ?_
    refine J.iconst (v := (0 : Int32)) dX6_heard_28 (by decide) ?_
    refine J.istore_n (lv' := [(3, .int (0 : Int32)), (2, .int (0 : Int32)), (1, .int y4), (0, .ref t)]) dX6_heard_29 (by decide) rfl ?_
    obtain ⟨f9, hw⟩ := hw
    exact J.pick [3, 2, 1, 0] rfl (rX6_heard_30 htr (Nat.le_refl _) hT f9 _ _ _ _ hw)
  · have hw := hw.2 c13
    refine J.iload_n 0 dX6_heard_16 rfl ?_
    refine J.bipush (v := (40 : Int32)) dX6_heard_17 (by decide) ?_
    refine J.icmp_gt 26 dX6_heard_19 (by decide) ⟨fun c19 => ?_, fun c19 => ?_⟩
    · have hw := hw.1 c19
      refine J.iconst (v := (0 : Int32)) dX6_heard_26 (by decide) ?_
      refine J.istore_n (lv' := [(2, .int (0 : Int32)), (1, .int y4), (0, .ref t)]) dX6_heard_27 (by decide) rfl ?_
      refine J.iconst (v := (0 : Int32)) dX6_heard_28 (by decide) ?_
      refine J.istore_n (lv' := [(3, .int (0 : Int32)), (2, .int (0 : Int32)), (1, .int y4), (0, .ref t)]) dX6_heard_29 (by decide) rfl ?_
      obtain ⟨f9, hw⟩ := hw
      exact J.pick [3, 2, 1, 0] rfl (rX6_heard_30 htr (Nat.le_refl _) hT f9 _ _ _ _ hw)
    · have hw := hw.2 c19
      refine J.iconst (v := (1 : Int32)) dX6_heard_22 (by decide) ?_
      refine J.goto 27 dX6_heard_23 (by decide) ?_
      refine J.istore_n (lv' := [(2, .int (1 : Int32)), (1, .int y4), (0, .ref t)]) dX6_heard_27 (by decide) rfl ?_
      refine J.iconst (v := (0 : Int32)) dX6_heard_28 (by decide) ?_
      refine J.istore_n (lv' := [(3, .int (0 : Int32)), (2, .int (1 : Int32)), (1, .int y4), (0, .ref t)]) dX6_heard_29 (by decide) rfl ?_
      obtain ⟨f9, hw⟩ := hw
      exact J.pick [3, 2, 1, 0] rfl (rX6_heard_30 htr (Nat.le_refl _) hT f9 _ _ _ _ hw)
theorem kX6_313 {G : jG} {l : Launch} {M : jM} {d c n pc : Nat} {lv : List (Nat × Value)} {rest : List Value} {post : Option Value → List jC → Prop} {xp : String → List jC → Prop} (hM : M.1.cls = RX6) (htr : l.stackTraces = false) {sh : List jH} {V : Nat → Nat → Int32} {R : Nat → Nat → Option Nat} {t : Nat} (hT : jReg shX6 sh t) {a1 : Int32} {Q : Int32 → Prop} (hd : decode M.2.1 pc = .ok (.invokevirtual 313, 3)) (hdd : 1 + 1 ≤ d) (hw8 : (rest.map fun v => v.category).sum ≤ 8) (hw : wX6_freeOf t V a1 Q) (kk : ∀ r, Q r → J G l M d c n (pc + 3) lv (.int r :: rest) (mk sh V R) post xp) : J G l M d c n pc lv (.int a1 :: .ref t :: rest) (mk sh V R) post xp :=
  J.callV (As := [.int a1]) (hcw := by rw [hM]; exact lw_V q2395 q2397 qs98 q152 q2398) (mX6_freeOf htr hT hw) hd rfl ⟨5, _, _, mk_at (hT.at 0 rfl), rfl, rfl, fun _ => rfl⟩ ⟨rfl, by decide, by decide, by show _ = some 1; decide +kernel⟩ hw8 ⟨hdd, by decide⟩ jcc0 (fun r9 g9 h9 => by obtain ⟨rfl, r, rfl, h⟩ := h9; exact kk r h) jNo.x
-- VisitingHoursModel.host(II)I
abbrev MX6_host : jM := (yX6_host, cX6_host, 3, some .int, [])
def wX6_host_28 (t : Nat) (a1 : Int32) (a2 : Int32) (Q : Int32 → (Nat → Nat → Int32) → Prop) (V : Nat → Nat → Int32) (s1 : Int32) : Prop :=
  ((((vset V t 0 s1) t 0) ≤ 0 → (((4 : Int32) ≤ a2 → ((¬ a2 = (4 : Int32) → ((¬ a2 = (5 : Int32) → wX6_gladness t (vset V t 0 s1) (fun r75 => ((¬ r75 = 0 → wX6_of t (vset V t 0 s1) a1 (2 : Int32) (fun r90 => wX6_gladness t (vset V t 0 s1) (fun r95 => (¬ r95 = 0 ∧ Q (((100 : Int32) * r90) / r95) (vset V t 0 s1))))) ∧ (r75 = 0 → Q (0 : Int32) (vset V t 0 s1))))) ∧ (a2 = (5 : Int32) → wX6_seesOf t (vset V t 0 s1) a1 (fun r70 => Q r70 (vset V t 0 s1))))) ∧ (a2 = (4 : Int32) → wX6_freeOf t (vset V t 0 s1) a1 (fun r59 => Q r59 (vset V t 0 s1))))) ∧ (¬ (4 : Int32) ≤ a2 → wX6_of t (vset V t 0 s1) a1 a2 (fun r48 => Q r48 (vset V t 0 s1))))) ∧ (¬ ((vset V t 0 s1) t 0) ≤ 0 → Q (0 : Int32) (vset V t 0 s1)))
theorem rX6_host_28 {G : jG} {l : Launch} {d c n : Nat} (htr : l.stackTraces = false) (hdd : 2 ≤ d) {sh : List jH} {t : Nat} (hT : jReg shX6 sh t) {R : Nat → Nat → Option Nat} {a1 : Int32} {a2 : Int32} {Q : Int32 → (Nat → Nat → Int32) → Prop} {V : Nat → Nat → Int32} {s1 : Int32} (hw : wX6_host_28 t a1 a2 Q V s1) : J G l MX6_host d c n 28 [(0, .ref t), (1, .int a1), (2, .int a2)] [.int s1, .ref t] (mk sh V R) (jWr sh R Q) jNo := by
  unfold wX6_host_28 at hw
  refine pX6_54 rfl hT dX6_host_28 ?_
  refine J.aload_n 0 dX6_host_31 rfl ?_
  refine gX6_54 rfl hT dX6_host_32 ?_
  refine J.if_le 40 dX6_host_35 (by decide) ⟨fun c35 => ?_, fun c35 => ?_⟩
  · have hw := hw.1 c35
    refine J.iload_n 2 dX6_host_40 rfl ?_
    refine J.iconst (v := (4 : Int32)) dX6_host_41 (by decide) ?_
    refine J.icmp_ge 52 dX6_host_42 (by decide) ⟨fun c42 => ?_, fun c42 => ?_⟩
    · have hw := hw.1 c42
      refine J.iload_n 2 dX6_host_52 rfl ?_
      refine J.iconst (v := (4 : Int32)) dX6_host_53 (by decide) ?_
      refine J.icmp_ne 63 dX6_host_54 (by decide) ⟨fun c54 => ?_, fun c54 => ?_⟩
      · have hw := hw.1 c54
        refine J.iload_n 2 dX6_host_63 rfl ?_
        refine J.iconst (v := (5 : Int32)) dX6_host_64 (by decide) ?_
        refine J.icmp_ne 74 dX6_host_65 (by decide) ⟨fun c65 => ?_, fun c65 => ?_⟩
        · have hw := hw.1 c65
          refine J.aload_n 0 dX6_host_74 rfl ?_
          refine kX6_319 rfl htr hT dX6_host_75 (by omega) (Nat.le_of_ble_eq_true rfl) hw (fun r75 hw => ?_)
          refine J.if_ne 85 dX6_host_78 (by decide) ⟨fun c78 => ?_, fun c78 => ?_⟩
          · have hw := hw.1 c78
            refine J.bipush (v := (100 : Int32)) dX6_host_85 (by decide) ?_
            refine J.aload_n 0 dX6_host_87 rfl ?_
            refine J.iload_n 1 dX6_host_88 rfl ?_
            refine J.iconst (v := (2 : Int32)) dX6_host_89 (by decide) ?_
            refine kX6_68 rfl htr hT dX6_host_90 (by omega) (Nat.le_of_ble_eq_true rfl) hw (fun r90 hw => ?_)
            refine J.imul dX6_host_93 ?_
            refine J.aload_n 0 dX6_host_94 rfl ?_
            refine kX6_319 rfl htr hT dX6_host_95 (by omega) (Nat.le_of_ble_eq_true rfl) hw (fun r95 hw => ?_)
            obtain ⟨h98, hw⟩ := hw
            refine J.idiv dX6_host_98 h98 ?_
            exact J.iret rfl dX6_host_99 ⟨_, rfl, _, rfl, hw⟩
          · have hw := hw.2 c78
            refine J.iconst (v := (0 : Int32)) dX6_host_81 (by decide) ?_
            refine J.goto 99 dX6_host_82 (by decide) ?_
            exact J.iret rfl dX6_host_99 ⟨_, rfl, _, rfl, hw⟩
        · have hw := hw.2 c65
          refine J.aload_n 0 dX6_host_68 rfl ?_
          refine J.iload_n 1 dX6_host_69 rfl ?_
          refine kX6_316 rfl htr hT dX6_host_70 (by omega) (Nat.le_of_ble_eq_true rfl) hw (fun r70 hw => ?_)
          exact J.iret rfl dX6_host_73 ⟨_, rfl, _, rfl, hw⟩
      · have hw := hw.2 c54
        refine J.aload_n 0 dX6_host_57 rfl ?_
        refine J.iload_n 1 dX6_host_58 rfl ?_
        refine kX6_313 rfl htr hT dX6_host_59 (by omega) (Nat.le_of_ble_eq_true rfl) hw (fun r59 hw => ?_)
        exact J.iret rfl dX6_host_62 ⟨_, rfl, _, rfl, hw⟩
    · have hw := hw.2 c42
      refine J.aload_n 0 dX6_host_45 rfl ?_
      refine J.iload_n 1 dX6_host_46 rfl ?_
      refine J.iload_n 2 dX6_host_47 rfl ?_
      refine kX6_68 rfl htr hT dX6_host_48 (by omega) (Nat.le_of_ble_eq_true rfl) hw (fun r48 hw => ?_)
      exact J.iret rfl dX6_host_51 ⟨_, rfl, _, rfl, hw⟩
  · have hw := hw.2 c35
    refine J.iconst (v := (0 : Int32)) dX6_host_38 (by decide) ?_
    exact J.iret rfl dX6_host_39 ⟨_, rfl, _, rfl, hw⟩
def wX6_host (t : Nat) (V : Nat → Nat → Int32) (a1 : Int32) (a2 : Int32) (Q : Int32 → (Nat → Nat → Int32) → Prop) : Prop :=
  wX6_isHost t V a1 (fun r3 => ((¬ r3 = 0 → wX6_isIn a2 (0 : Int32) (6 : Int32) (fun r17 => ((¬ r17 = 0 → wX6_host_28 t a1 a2 Q V (0 : Int32)) ∧ (r17 = 0 → wX6_host_28 t a1 a2 Q V (2 : Int32))))) ∧ (r3 = 0 → wX6_host_28 t a1 a2 Q V (1 : Int32))))
theorem mX6_host {G : jG} {l : Launch} (htr : l.stackTraces = false) {sh : List jH} {V : Nat → Nat → Int32} {R : Nat → Nat → Option Nat} {t : Nat} (hT : jReg shX6 sh t) {a1 : Int32} {a2 : Int32} {Q : Int32 → (Nat → Nat → Int32) → Prop} (hw : wX6_host t V a1 a2 Q) : JM G l MX6_host 2 0 0 [.ref t, .int a1, .int a2] (mk sh V R) (jWr sh R Q) jNo := by
  refine JM.intro (by decide) rfl htr (Nat.le_of_ble_eq_true rfl) ?_
  show J G l MX6_host 2 0 0 0 [(0, .ref t), (1, .int a1), (2, .int a2)] [] (mk sh V R) _ _
  unfold wX6_host at hw
  refine J.aload_n 0 dX6_host_0 rfl ?_
  refine J.aload_n 0 dX6_host_1 rfl ?_
  refine J.iload_n 1 dX6_host_2 rfl ?_
  refine kX6_310 rfl htr hT dX6_host_3 (by omega) (Nat.le_of_ble_eq_true rfl) hw (fun r3 hw => ?_)
  refine J.if_ne 13 dX6_host_6 (by decide) ⟨fun c6 => ?_, fun c6 => ?_⟩
  · have hw := hw.1 c6
    refine J.iload_n 2 dX6_host_13 rfl ?_
    refine J.iconst (v := (0 : Int32)) dX6_host_14 (by decide) ?_
    refine J.bipush (v := (6 : Int32)) dX6_host_15 (by decide) ?_
    refine kX6_57 rfl htr dX6_host_17 (by omega) (Nat.le_of_ble_eq_true rfl) hw (fun r17 hw => ?_)
    refine J.if_ne 27 dX6_host_20 (by decide) ⟨fun c20 => ?_, fun c20 => ?_⟩
    · have hw := hw.1 c20
      refine J.iconst (v := (0 : Int32)) dX6_host_27 (by decide) ?_
      exact (rX6_host_28 htr (Nat.le_refl _) hT hw)
    · have hw := hw.2 c20
      refine J.iconst (v := (2 : Int32)) dX6_host_23 (by decide) ?_
      refine J.goto 28 dX6_host_24 (by decide) ?_
      exact (rX6_host_28 htr (Nat.le_refl _) hT hw)
  · have hw := hw.2 c6
    refine J.iconst (v := (1 : Int32)) dX6_host_9 (by decide) ?_
    refine J.goto 28 dX6_host_10 (by decide) ?_
    exact (rX6_host_28 htr (Nat.le_refl _) hT hw)
-- VisitingHoursModel.hostBest(I)I
abbrev MX6_hostBest : jM := (yX6_hostBest, cX6_hostBest, 2, some .int, [])
def wX6_hostBest_14 (t : Nat) (a1 : Int32) (Q : Int32 → (Nat → Nat → Int32) → Prop) (V : Nat → Nat → Int32) (s1 : Int32) : Prop :=
  ((((vset V t 0 s1) t 0) ≤ 0 → wX6_pairs t (vset V t 0 s1) (1 : Int32) (fun V28 => (vp_in a1 8 ∧ Q (V28 (t + 7) a1.toNatClampNeg) V28))) ∧ (¬ ((vset V t 0 s1) t 0) ≤ 0 → Q (0 : Int32) (vset V t 0 s1)))
theorem rX6_hostBest_14 {G : jG} {l : Launch} {d c n : Nat} (htr : l.stackTraces = false) (hdd : 4 ≤ d) {sh : List jH} {t : Nat} (hT : jReg shX6 sh t) {R : Nat → Nat → Option Nat} {a1 : Int32} {Q : Int32 → (Nat → Nat → Int32) → Prop} {V : Nat → Nat → Int32} {s1 : Int32} (hw : wX6_hostBest_14 t a1 Q V s1) : J G l MX6_hostBest d c n 14 [(0, .ref t), (1, .int a1)] [.int s1, .ref t] (mk sh V R) (jWr sh R Q) jNo := by
  unfold wX6_hostBest_14 at hw
  refine pX6_54 rfl hT dX6_hostBest_14 ?_
  refine J.aload_n 0 dX6_hostBest_17 rfl ?_
  refine gX6_54 rfl hT dX6_hostBest_18 ?_
  refine J.if_le 26 dX6_hostBest_21 (by decide) ⟨fun c21 => ?_, fun c21 => ?_⟩
  · have hw := hw.1 c21
    refine J.aload_n 0 dX6_hostBest_26 rfl ?_
    refine J.iconst (v := (1 : Int32)) dX6_hostBest_27 (by decide) ?_
    refine kX6_365 rfl htr hT dX6_hostBest_28 (by omega) (Nat.le_of_ble_eq_true rfl) hw (fun V28 hw => ?_)
    refine J.aload_n 0 dX6_hostBest_31 rfl ?_
    refine gX6_32 rfl hT dX6_hostBest_32 ?_
    refine J.iload_n 1 dX6_hostBest_35 rfl ?_
    obtain ⟨h36, hw⟩ := hw
    refine JV.iald dX6_hostBest_36 (hT.ge 7) (hT.at 7 rfl) h36 ?_
    exact J.iret rfl dX6_hostBest_37 ⟨_, rfl, _, rfl, hw⟩
  · have hw := hw.2 c21
    refine J.iconst (v := (0 : Int32)) dX6_hostBest_24 (by decide) ?_
    exact J.iret rfl dX6_hostBest_25 ⟨_, rfl, _, rfl, hw⟩
def wX6_hostBest (t : Nat) (V : Nat → Nat → Int32) (a1 : Int32) (Q : Int32 → (Nat → Nat → Int32) → Prop) : Prop :=
  wX6_isHost t V a1 (fun r3 => ((¬ r3 = 0 → wX6_hostBest_14 t a1 Q V (0 : Int32)) ∧ (r3 = 0 → wX6_hostBest_14 t a1 Q V (1 : Int32))))
theorem mX6_hostBest {G : jG} {l : Launch} (htr : l.stackTraces = false) {sh : List jH} {V : Nat → Nat → Int32} {R : Nat → Nat → Option Nat} {t : Nat} (hT : jReg shX6 sh t) {a1 : Int32} {Q : Int32 → (Nat → Nat → Int32) → Prop} (hw : wX6_hostBest t V a1 Q) : JM G l MX6_hostBest 4 0 0 [.ref t, .int a1] (mk sh V R) (jWr sh R Q) jNo := by
  refine JM.intro (by decide) rfl htr (Nat.le_of_ble_eq_true rfl) ?_
  show J G l MX6_hostBest 4 0 0 0 [(0, .ref t), (1, .int a1)] [] (mk sh V R) _ _
  unfold wX6_hostBest at hw
  refine J.aload_n 0 dX6_hostBest_0 rfl ?_
  refine J.aload_n 0 dX6_hostBest_1 rfl ?_
  refine J.iload_n 1 dX6_hostBest_2 rfl ?_
  refine kX6_310 rfl htr hT dX6_hostBest_3 (by omega) (Nat.le_of_ble_eq_true rfl) hw (fun r3 hw => ?_)
  refine J.if_ne 13 dX6_hostBest_6 (by decide) ⟨fun c6 => ?_, fun c6 => ?_⟩
  · have hw := hw.1 c6
    refine J.iconst (v := (0 : Int32)) dX6_hostBest_13 (by decide) ?_
    exact (rX6_hostBest_14 htr (Nat.le_refl _) hT hw)
  · have hw := hw.2 c6
    refine J.iconst (v := (1 : Int32)) dX6_hostBest_9 (by decide) ?_
    refine J.goto 14 dX6_hostBest_10 (by decide) ?_
    exact (rX6_hostBest_14 htr (Nat.le_refl _) hT hw)
theorem pX6_430 {G : jG} {l : Launch} {M : jM} {d c n pc : Nat} {lv : List (Nat × Value)} {st : List Value} {sh : List jH} {V : Nat → Nat → Int32} {R : Nat → Nat → Option Nat} {post : Option Value → List jC → Prop} {xp : String → List jC → Prop} {t : Nat} (hM : M.1.cls = RX6) (hT : jReg shX6 sh t) {x : Int32} (hd : decode M.2.1 pc = .ok (.putfield 430, 3)) (hz : jz x) (kk : J G l M d c n (pc + 3) lv st (mk sh (vset V t 3 x) R) post xp) : J G l M d c n pc lv (.int x :: .ref t :: st) (mk sh V R) post xp := JV.puti (C := RX6) (T0 := TX6) (N := 28) (o := 0) 3 hd hT.1 (hT.at 0 rfl) rfl in_X6 tyX6 tyX6_ok nmX6 (by decide) (by rw [hM]; exact q2131) rfl rfl (jz_put hz) rfl kk
-- VisitingHoursModel.image()V
abbrev MX6_image : jM := (yX6_image, cX6_image, 2, none, [])
def wX6_image_7 (t : Nat) (Q : (Nat → Nat → Int32) → Prop) : Nat → (Nat → Nat → Int32) → Int32 → Prop
  | 0, _, _ => False
  | f + 1, V, x1 =>
    (((1019 : Int32) ≤ x1 → Q (vset V t 3 (1 : Int32))) ∧ (¬ (1019 : Int32) ≤ x1 → (vp_in x1 1019 ∧ (∀ y25 : Int32, y25 = (V (t + 1) x1.toNatClampNeg) → (vp_in x1 1019 ∧ (∀ y26 : Int32, y26 = x1 + (1 : Int32) → wX6_image_7 t Q f (vset V (t + 2) x1.toNatClampNeg y25) y26))))))
theorem rX6_image_7 {G : jG} {l : Launch} {d c n : Nat} (htr : l.stackTraces = false) (hdd : 0 ≤ d) {sh : List jH} {t : Nat} (hT : jReg shX6 sh t) {R : Nat → Nat → Option Nat} {Q : (Nat → Nat → Int32) → Prop} : ∀ (f : Nat) (V : Nat → Nat → Int32) (x1 : Int32), wX6_image_7 t Q f V x1 → J G l MX6_image d c n 7 [(0, .ref t), (1, .int x1)] [] (mk sh V R) (jWv sh R Q) jNo := by
  intro f
  induction f with
  | zero =>
    intro V x1 hw
    rw [wX6_image_7] at hw
    exact hw.elim
  | succ f ih =>
    intro V x1 hw
    rw [wX6_image_7] at hw
    refine J.iload_n 1 dX6_image_7 rfl ?_
    refine J.sipush (v := (1019 : Int32)) dX6_image_8 (by decide) ?_
    refine J.icmp_ge 32 dX6_image_11 (by decide) ⟨fun c11 => ?_, fun c11 => ?_⟩
    · have hw := hw.1 c11
      refine J.aload_n 0 dX6_image_32 rfl ?_
      refine J.iconst (v := (1 : Int32)) dX6_image_33 (by decide) ?_
      refine pX6_430 rfl hT dX6_image_34 jz1 ?_
      exact J.vret rfl dX6_image_37 ⟨_, rfl, rfl, hw⟩
    · have hw := hw.2 c11
      refine J.aload_n 0 dX6_image_14 rfl ?_
      refine gX6_13 rfl hT dX6_image_15 ?_
      refine J.iload_n 1 dX6_image_18 rfl ?_
      refine J.aload_n 0 dX6_image_19 rfl ?_
      refine gX6_7 rfl hT dX6_image_20 ?_
      refine J.iload_n 1 dX6_image_23 rfl ?_
      obtain ⟨h24, hw⟩ := hw
      refine JV.iald dX6_image_24 (hT.ge 1) (hT.at 1 rfl) h24 ?_
      refine J.nm hw (fun y25 hw => ?_)
      obtain ⟨h25, hw⟩ := hw
      refine JV.iast dX6_image_25 (hT.ge 2) (hT.at 2 rfl) h25 ?_
      refine J.iincN 1 (K := (1 : Int32)) (lv' := fun y26 => [(1, .int y26), (0, .ref t)]) dX6_image_26 rfl (by decide) (by decide) (fun _ => rfl) hw (fun y26 hw => ?_)
      refine J.goto 7 dX6_image_29 (by decide) ?_
      exact J.pick [1, 0] rfl (ih _ _ hw)
def wX6_image (t : Nat) (V : Nat → Nat → Int32) (Q : (Nat → Nat → Int32) → Prop) : Prop :=
  (∃ f9, wX6_image_7 t Q f9 (vset V t 0 (0 : Int32)) (0 : Int32))
theorem mX6_image {G : jG} {l : Launch} (htr : l.stackTraces = false) {sh : List jH} {V : Nat → Nat → Int32} {R : Nat → Nat → Option Nat} {t : Nat} (hT : jReg shX6 sh t) {Q : (Nat → Nat → Int32) → Prop} (hw : wX6_image t V Q) : JM G l MX6_image 0 0 0 [.ref t] (mk sh V R) (jWv sh R Q) jNo := by
  refine JM.intro (by decide) rfl htr (Nat.le_of_ble_eq_true rfl) ?_
  show J G l MX6_image 0 0 0 0 [(0, .ref t)] [] (mk sh V R) _ _
  unfold wX6_image at hw
  refine J.aload_n 0 dX6_image_0 rfl ?_
  refine J.iconst (v := (0 : Int32)) dX6_image_1 (by decide) ?_
  refine pX6_54 rfl hT dX6_image_2 ?_
  refine J.iconst (v := (0 : Int32)) dX6_image_5 (by decide) ?_
  refine J.istore_n (lv' := [(1, .int (0 : Int32)), (0, .ref t)]) dX6_image_6 (by decide) rfl ?_
  obtain ⟨f9, hw⟩ := hw
  exact J.pick [1, 0] rfl (rX6_image_7 htr (Nat.le_refl _) hT f9 _ _ hw)
-- VisitingHoursModel.kth(II)I
abbrev MX6_kth : jM := (yX6_kth, cX6_kth, 4, some .int, [])
def wX6_kth_4 (a1 : Int32) (a2 : Int32) (Q : Int32 → Prop) : Nat → Int32 → Int32 → Prop
  | 0, _, _ => False
  | f + 1, x2, x3 =>
    (((8 : Int32) ≤ x3 → Q (-1 : Int32)) ∧ (¬ (8 : Int32) ≤ x3 → wX6_isOf a1 x3 (fun r12 => ((¬ r12 = 0 → ((¬ x2 = a2 → (∀ y28 : Int32, y28 = x2 + (1 : Int32) → (∀ y31 : Int32, y31 = x3 + (1 : Int32) → wX6_kth_4 a1 a2 Q f y28 y31))) ∧ (x2 = a2 → Q x3))) ∧ (r12 = 0 → (∀ y31 : Int32, y31 = x3 + (1 : Int32) → wX6_kth_4 a1 a2 Q f x2 y31))))))
theorem rX6_kth_4 {G : jG} {l : Launch} {d c n : Nat} (htr : l.stackTraces = false) (hdd : 1 ≤ d) {sh : List jH} {R : Nat → Nat → Option Nat} {V : Nat → Nat → Int32} {a1 : Int32} {a2 : Int32} {Q : Int32 → Prop} : ∀ (f : Nat) (x2 : Int32) (x3 : Int32), wX6_kth_4 a1 a2 Q f x2 x3 → J G l MX6_kth d c n 4 [(0, .int a1), (1, .int a2), (2, .int x2), (3, .int x3)] [] (mk sh V R) (jRd (mk sh V R) Q) jNo := by
  intro f
  induction f with
  | zero =>
    intro x2 x3 hw
    rw [wX6_kth_4] at hw
    exact hw.elim
  | succ f ih =>
    intro x2 x3 hw
    rw [wX6_kth_4] at hw
    refine J.iload_n 3 dX6_kth_4 rfl ?_
    refine J.bipush (v := (8 : Int32)) dX6_kth_5 (by decide) ?_
    refine J.icmp_ge 37 dX6_kth_7 (by decide) ⟨fun c7 => ?_, fun c7 => ?_⟩
    · have hw := hw.1 c7
      refine J.iconst (v := (-1 : Int32)) dX6_kth_37 (by decide) ?_
      exact J.iret rfl dX6_kth_38 ⟨rfl, _, rfl, hw⟩
    · have hw := hw.2 c7
      refine J.iload_n 0 dX6_kth_10 rfl ?_
      refine J.iload_n 3 dX6_kth_11 rfl ?_
      refine kX6_74 rfl htr dX6_kth_12 (by omega) (Nat.le_of_ble_eq_true rfl) hw (fun r12 hw => ?_)
      refine J.if_ne 21 dX6_kth_15 (by decide) ⟨fun c15 => ?_, fun c15 => ?_⟩
      · have hw := hw.1 c15
        refine J.iload_n 2 dX6_kth_21 rfl ?_
        refine J.iload_n 1 dX6_kth_22 rfl ?_
        refine J.icmp_ne 28 dX6_kth_23 (by decide) ⟨fun c23 => ?_, fun c23 => ?_⟩
        · have hw := hw.1 c23
          refine J.iincN 2 (K := (1 : Int32)) (lv' := fun y28 => [(2, .int y28), (0, .int a1), (1, .int a2), (3, .int x3)]) dX6_kth_28 rfl (by decide) (by decide) (fun _ => rfl) hw (fun y28 hw => ?_)
          refine J.iincN 3 (K := (1 : Int32)) (lv' := fun y31 => [(3, .int y31), (2, .int y28), (0, .int a1), (1, .int a2)]) dX6_kth_31 rfl (by decide) (by decide) (fun _ => rfl) hw (fun y31 hw => ?_)
          refine J.goto 4 dX6_kth_34 (by decide) ?_
          exact J.pick [2, 3, 1, 0] rfl (ih _ _ hw)
        · have hw := hw.2 c23
          refine J.iload_n 3 dX6_kth_26 rfl ?_
          exact J.iret rfl dX6_kth_27 ⟨rfl, _, rfl, hw⟩
      · have hw := hw.2 c15
        refine J.goto 31 dX6_kth_18 (by decide) ?_
        refine J.iincN 3 (K := (1 : Int32)) (lv' := fun y31 => [(3, .int y31), (0, .int a1), (1, .int a2), (2, .int x2)]) dX6_kth_31 rfl (by decide) (by decide) (fun _ => rfl) hw (fun y31 hw => ?_)
        refine J.goto 4 dX6_kth_34 (by decide) ?_
        exact J.pick [1, 2, 3, 0] rfl (ih _ _ hw)
def wX6_kth (a1 : Int32) (a2 : Int32) (Q : Int32 → Prop) : Prop :=
  (∃ f9, wX6_kth_4 a1 a2 Q f9 (0 : Int32) (0 : Int32))
theorem mX6_kth {G : jG} {l : Launch} (htr : l.stackTraces = false) {sh : List jH} {V : Nat → Nat → Int32} {R : Nat → Nat → Option Nat} {a1 : Int32} {a2 : Int32} {Q : Int32 → Prop} (hw : wX6_kth a1 a2 Q) : JM G l MX6_kth 1 0 0 [.int a1, .int a2] (mk sh V R) (jRd (mk sh V R) Q) jNo := by
  refine JM.intro (by decide) rfl htr (Nat.le_of_ble_eq_true rfl) ?_
  show J G l MX6_kth 1 0 0 0 [(0, .int a1), (1, .int a2)] [] (mk sh V R) _ _
  unfold wX6_kth at hw
  refine J.iconst (v := (0 : Int32)) dX6_kth_0 (by decide) ?_
  refine J.istore_n (lv' := [(2, .int (0 : Int32)), (0, .int a1), (1, .int a2)]) dX6_kth_1 (by decide) rfl ?_
  refine J.iconst (v := (0 : Int32)) dX6_kth_2 (by decide) ?_
  refine J.istore_n (lv' := [(3, .int (0 : Int32)), (2, .int (0 : Int32)), (0, .int a1), (1, .int a2)]) dX6_kth_3 (by decide) rfl ?_
  obtain ⟨f9, hw⟩ := hw
  exact J.pick [2, 3, 1, 0] rfl (rX6_kth_4 htr (Nat.le_refl _) f9 _ _ hw)
-- VisitingHoursModel.rathers()I
abbrev MX6_rathers : jM := (yX6_rathers, cX6_rathers, 4, some .int, [])
def wX6_rathers_16 (t : Nat) (V : Nat → Nat → Int32) (Q : Int32 → Prop) (K4 : Int32 → Int32 → Prop) : Nat → Int32 → Int32 → Int32 → Prop
  | 0, _, _, _ => False
  | f + 1, x1, x2, x3 =>
    (((V (t + 1) 4) ≤ x3 → (∀ y89 : Int32, y89 = x2 + (1 : Int32) → K4 x1 y89)) ∧ (¬ (V (t + 1) 4) ≤ x3 → (vp_in x2 8 ∧ (((V (t + 7) x2.toNatClampNeg) = x3 → (∀ y82 : Int32, y82 = (x1 + (0 : Int32)) → (∀ y83 : Int32, y83 = x3 + (1 : Int32) → wX6_rathers_16 t V Q K4 f y82 x2 y83))) ∧ (¬ (V (t + 7) x2.toNatClampNeg) = x3 → wX6_mayMeet t V x2 x3 (fun r40 => ((r40 = 0 → (∀ y82 : Int32, y82 = (x1 + (0 : Int32)) → (∀ y83 : Int32, y83 = x3 + (1 : Int32) → wX6_rathers_16 t V Q K4 f y82 x2 y83))) ∧ (¬ r40 = 0 → (vp_in x2 8 ∧ wX6_hostRather t V x2 x3 (V (t + 7) x2.toNatClampNeg) (fun r55 => ((r55 = 0 → (∀ y82 : Int32, y82 = (x1 + (0 : Int32)) → (∀ y83 : Int32, y83 = x3 + (1 : Int32) → wX6_rathers_16 t V Q K4 f y82 x2 y83))) ∧ (¬ r55 = 0 → (vp_in x3 8 ∧ wX6_guestRather t V x3 x2 (V (t + 8) x3.toNatClampNeg) (fun r70 => ((r70 = 0 → (∀ y82 : Int32, y82 = (x1 + (0 : Int32)) → (∀ y83 : Int32, y83 = x3 + (1 : Int32) → wX6_rathers_16 t V Q K4 f y82 x2 y83))) ∧ (¬ r70 = 0 → (∀ y82 : Int32, y82 = (x1 + (1 : Int32)) → (∀ y83 : Int32, y83 = x3 + (1 : Int32) → wX6_rathers_16 t V Q K4 f y82 x2 y83))))))))))))))))))
theorem rX6_rathers_16 {G : jG} {l : Launch} {d c n : Nat} (htr : l.stackTraces = false) (hdd : 2 ≤ d) {sh : List jH} {t : Nat} (hT : jReg shX6 sh t) {R : Nat → Nat → Option Nat} {V : Nat → Nat → Int32} {Q : Int32 → Prop} {K4 : Int32 → Int32 → Prop} (hK4 : ∀ (x1 : Int32) (x2 : Int32), K4 x1 x2 → J G l MX6_rathers d c n 4 [(0, .ref t), (1, .int x1), (2, .int x2)] [] (mk sh V R) (jRd (mk sh V R) Q) jNo) : ∀ (f : Nat) (x1 : Int32) (x2 : Int32) (x3 : Int32), wX6_rathers_16 t V Q K4 f x1 x2 x3 → J G l MX6_rathers d c n 16 [(0, .ref t), (1, .int x1), (2, .int x2), (3, .int x3)] [] (mk sh V R) (jRd (mk sh V R) Q) jNo := by
  intro f
  induction f with
  | zero =>
    intro x1 x2 x3 hw
    rw [wX6_rathers_16] at hw
    exact hw.elim
  | succ f ih =>
    intro x1 x2 x3 hw
    rw [wX6_rathers_16] at hw
    refine J.iload_n 3 dX6_rathers_16 rfl ?_
    refine J.aload_n 0 dX6_rathers_17 rfl ?_
    refine gX6_7 rfl hT dX6_rathers_18 ?_
    refine J.iconst (v := (4 : Int32)) dX6_rathers_21 (by decide) ?_
    refine JV.ialdK 4 dX6_rathers_22 (hT.ge 1) (hT.at 1 rfl) rfl (by decide) (by decide) ?_
    refine J.icmp_ge 89 dX6_rathers_23 (by decide) ⟨fun c23 => ?_, fun c23 => ?_⟩
    · have hw := hw.1 c23
      refine J.iincN 2 (K := (1 : Int32)) (lv' := fun y89 => [(2, .int y89), (0, .ref t), (1, .int x1), (3, .int x3)]) dX6_rathers_89 rfl (by decide) (by decide) (fun _ => rfl) hw (fun y89 hw => ?_)
      refine J.goto 4 dX6_rathers_92 (by decide) ?_
      exact J.pick [1, 2, 0] rfl (hK4 _ _ hw)
    · have hw := hw.2 c23
      refine J.iload_n 1 dX6_rathers_26 rfl ?_
      refine J.aload_n 0 dX6_rathers_27 rfl ?_
      refine gX6_32 rfl hT dX6_rathers_28 ?_
      refine J.iload_n 2 dX6_rathers_31 rfl ?_
      obtain ⟨h32, hw⟩ := hw
      refine JV.iald dX6_rathers_32 (hT.ge 7) (hT.at 7 rfl) h32 ?_
      refine J.iload_n 3 dX6_rathers_33 rfl ?_
      refine J.icmp_eq 80 dX6_rathers_34 (by decide) ⟨fun c34 => ?_, fun c34 => ?_⟩
      · have hw := hw.1 c34
        refine J.iconst (v := (0 : Int32)) dX6_rathers_80 (by decide) ?_
        refine J.iadd dX6_rathers_81 ?_
        refine J.nm hw (fun y82 hw => ?_)
        refine J.istore_n (lv' := [(1, .int y82), (0, .ref t), (2, .int x2), (3, .int x3)]) dX6_rathers_82 (by decide) rfl ?_
        refine J.iincN 3 (K := (1 : Int32)) (lv' := fun y83 => [(3, .int y83), (1, .int y82), (0, .ref t), (2, .int x2)]) dX6_rathers_83 rfl (by decide) (by decide) (fun _ => rfl) hw (fun y83 hw => ?_)
        refine J.goto 16 dX6_rathers_86 (by decide) ?_
        exact J.pick [2, 1, 3, 0] rfl (ih _ _ _ hw)
      · have hw := hw.2 c34
        refine J.aload_n 0 dX6_rathers_37 rfl ?_
        refine J.iload_n 2 dX6_rathers_38 rfl ?_
        refine J.iload_n 3 dX6_rathers_39 rfl ?_
        refine kX6_78 rfl htr hT dX6_rathers_40 (by omega) (Nat.le_of_ble_eq_true rfl) hw (fun r40 hw => ?_)
        refine J.if_eq 80 dX6_rathers_43 (by decide) ⟨fun c43 => ?_, fun c43 => ?_⟩
        · have hw := hw.1 c43
          refine J.iconst (v := (0 : Int32)) dX6_rathers_80 (by decide) ?_
          refine J.iadd dX6_rathers_81 ?_
          refine J.nm hw (fun y82 hw => ?_)
          refine J.istore_n (lv' := [(1, .int y82), (0, .ref t), (2, .int x2), (3, .int x3)]) dX6_rathers_82 (by decide) rfl ?_
          refine J.iincN 3 (K := (1 : Int32)) (lv' := fun y83 => [(3, .int y83), (1, .int y82), (0, .ref t), (2, .int x2)]) dX6_rathers_83 rfl (by decide) (by decide) (fun _ => rfl) hw (fun y83 hw => ?_)
          refine J.goto 16 dX6_rathers_86 (by decide) ?_
          exact J.pick [2, 1, 3, 0] rfl (ih _ _ _ hw)
        · have hw := hw.2 c43
          refine J.aload_n 0 dX6_rathers_46 rfl ?_
          refine J.iload_n 2 dX6_rathers_47 rfl ?_
          refine J.iload_n 3 dX6_rathers_48 rfl ?_
          refine J.aload_n 0 dX6_rathers_49 rfl ?_
          refine gX6_32 rfl hT dX6_rathers_50 ?_
          refine J.iload_n 2 dX6_rathers_53 rfl ?_
          obtain ⟨h54, hw⟩ := hw
          refine JV.iald dX6_rathers_54 (hT.ge 7) (hT.at 7 rfl) h54 ?_
          refine kX6_359 rfl htr hT dX6_rathers_55 (by omega) (Nat.le_of_ble_eq_true rfl) hw (fun r55 hw => ?_)
          refine J.if_eq 80 dX6_rathers_58 (by decide) ⟨fun c58 => ?_, fun c58 => ?_⟩
          · have hw := hw.1 c58
            refine J.iconst (v := (0 : Int32)) dX6_rathers_80 (by decide) ?_
            refine J.iadd dX6_rathers_81 ?_
            refine J.nm hw (fun y82 hw => ?_)
            refine J.istore_n (lv' := [(1, .int y82), (0, .ref t), (2, .int x2), (3, .int x3)]) dX6_rathers_82 (by decide) rfl ?_
            refine J.iincN 3 (K := (1 : Int32)) (lv' := fun y83 => [(3, .int y83), (1, .int y82), (0, .ref t), (2, .int x2)]) dX6_rathers_83 rfl (by decide) (by decide) (fun _ => rfl) hw (fun y83 hw => ?_)
            refine J.goto 16 dX6_rathers_86 (by decide) ?_
            exact J.pick [2, 1, 3, 0] rfl (ih _ _ _ hw)
          · have hw := hw.2 c58
            refine J.aload_n 0 dX6_rathers_61 rfl ?_
            refine J.iload_n 3 dX6_rathers_62 rfl ?_
            refine J.iload_n 2 dX6_rathers_63 rfl ?_
            refine J.aload_n 0 dX6_rathers_64 rfl ?_
            refine gX6_35 rfl hT dX6_rathers_65 ?_
            refine J.iload_n 3 dX6_rathers_68 rfl ?_
            obtain ⟨h69, hw⟩ := hw
            refine JV.iald dX6_rathers_69 (hT.ge 8) (hT.at 8 rfl) h69 ?_
            refine kX6_362 rfl htr hT dX6_rathers_70 (by omega) (Nat.le_of_ble_eq_true rfl) hw (fun r70 hw => ?_)
            refine J.if_eq 80 dX6_rathers_73 (by decide) ⟨fun c73 => ?_, fun c73 => ?_⟩
            · have hw := hw.1 c73
              refine J.iconst (v := (0 : Int32)) dX6_rathers_80 (by decide) ?_
              refine J.iadd dX6_rathers_81 ?_
              refine J.nm hw (fun y82 hw => ?_)
              refine J.istore_n (lv' := [(1, .int y82), (0, .ref t), (2, .int x2), (3, .int x3)]) dX6_rathers_82 (by decide) rfl ?_
              refine J.iincN 3 (K := (1 : Int32)) (lv' := fun y83 => [(3, .int y83), (1, .int y82), (0, .ref t), (2, .int x2)]) dX6_rathers_83 rfl (by decide) (by decide) (fun _ => rfl) hw (fun y83 hw => ?_)
              refine J.goto 16 dX6_rathers_86 (by decide) ?_
              exact J.pick [2, 1, 3, 0] rfl (ih _ _ _ hw)
            · have hw := hw.2 c73
              refine J.iconst (v := (1 : Int32)) dX6_rathers_76 (by decide) ?_
              refine J.goto 81 dX6_rathers_77 (by decide) ?_
              refine J.iadd dX6_rathers_81 ?_
              refine J.nm hw (fun y82 hw => ?_)
              refine J.istore_n (lv' := [(1, .int y82), (0, .ref t), (2, .int x2), (3, .int x3)]) dX6_rathers_82 (by decide) rfl ?_
              refine J.iincN 3 (K := (1 : Int32)) (lv' := fun y83 => [(3, .int y83), (1, .int y82), (0, .ref t), (2, .int x2)]) dX6_rathers_83 rfl (by decide) (by decide) (fun _ => rfl) hw (fun y83 hw => ?_)
              refine J.goto 16 dX6_rathers_86 (by decide) ?_
              exact J.pick [2, 1, 3, 0] rfl (ih _ _ _ hw)
def wX6_rathers_4 (t : Nat) (V : Nat → Nat → Int32) (Q : Int32 → Prop) : Nat → Int32 → Int32 → Prop
  | 0, _, _ => False
  | f + 1, x1, x2 =>
    (((V (t + 1) 3) ≤ x2 → Q x1) ∧ (¬ (V (t + 1) 3) ≤ x2 → (∃ f9, wX6_rathers_16 t V Q (fun x1 x2 => wX6_rathers_4 t V Q f x1 x2) f9 x1 x2 (0 : Int32))))
theorem rX6_rathers_4 {G : jG} {l : Launch} {d c n : Nat} (htr : l.stackTraces = false) (hdd : 2 ≤ d) {sh : List jH} {t : Nat} (hT : jReg shX6 sh t) {R : Nat → Nat → Option Nat} {V : Nat → Nat → Int32} {Q : Int32 → Prop} : ∀ (f : Nat) (x1 : Int32) (x2 : Int32), wX6_rathers_4 t V Q f x1 x2 → J G l MX6_rathers d c n 4 [(0, .ref t), (1, .int x1), (2, .int x2)] [] (mk sh V R) (jRd (mk sh V R) Q) jNo := by
  intro f
  induction f with
  | zero =>
    intro x1 x2 hw
    rw [wX6_rathers_4] at hw
    exact hw.elim
  | succ f ih =>
    intro x1 x2 hw
    rw [wX6_rathers_4] at hw
    refine J.iload_n 2 dX6_rathers_4 rfl ?_
    refine J.aload_n 0 dX6_rathers_5 rfl ?_
    refine gX6_7 rfl hT dX6_rathers_6 ?_
    refine J.iconst (v := (3 : Int32)) dX6_rathers_9 (by decide) ?_
    refine JV.ialdK 3 dX6_rathers_10 (hT.ge 1) (hT.at 1 rfl) rfl (by decide) (by decide) ?_
    refine J.icmp_ge 95 dX6_rathers_11 (by decide) ⟨fun c11 => ?_, fun c11 => ?_⟩
    · have hw := hw.1 c11
      refine J.iload_n 1 dX6_rathers_95 rfl ?_
      exact J.iret rfl dX6_rathers_96 ⟨rfl, _, rfl, hw⟩
    · have hw := hw.2 c11
      refine J.iconst (v := (0 : Int32)) dX6_rathers_14 (by decide) ?_
      refine J.istore_n (lv' := [(3, .int (0 : Int32)), (0, .ref t), (1, .int x1), (2, .int x2)]) dX6_rathers_15 (by decide) rfl ?_
      obtain ⟨f9, hw⟩ := hw
      exact J.pick [1, 2, 3, 0] rfl (rX6_rathers_16 htr hdd hT ih f9 _ _ _ hw)
def wX6_rathers (t : Nat) (V : Nat → Nat → Int32) (Q : Int32 → Prop) : Prop :=
  (∃ f9, wX6_rathers_4 t V Q f9 (0 : Int32) (0 : Int32))
theorem mX6_rathers {G : jG} {l : Launch} (htr : l.stackTraces = false) {sh : List jH} {V : Nat → Nat → Int32} {R : Nat → Nat → Option Nat} {t : Nat} (hT : jReg shX6 sh t) {Q : Int32 → Prop} (hw : wX6_rathers t V Q) : JM G l MX6_rathers 2 0 0 [.ref t] (mk sh V R) (jRd (mk sh V R) Q) jNo := by
  refine JM.intro (by decide) rfl htr (Nat.le_of_ble_eq_true rfl) ?_
  show J G l MX6_rathers 2 0 0 0 [(0, .ref t)] [] (mk sh V R) _ _
  unfold wX6_rathers at hw
  refine J.iconst (v := (0 : Int32)) dX6_rathers_0 (by decide) ?_
  refine J.istore_n (lv' := [(1, .int (0 : Int32)), (0, .ref t)]) dX6_rathers_1 (by decide) rfl ?_
  refine J.iconst (v := (0 : Int32)) dX6_rathers_2 (by decide) ?_
  refine J.istore_n (lv' := [(2, .int (0 : Int32)), (1, .int (0 : Int32)), (0, .ref t)]) dX6_rathers_3 (by decide) rfl ?_
  obtain ⟨f9, hw⟩ := hw
  exact J.pick [2, 1, 0] rfl (rX6_rathers_4 htr (Nat.le_refl _) hT f9 _ _ hw)
theorem kX6_372 {G : jG} {l : Launch} {M : jM} {d c n pc : Nat} {lv : List (Nat × Value)} {rest : List Value} {post : Option Value → List jC → Prop} {xp : String → List jC → Prop} (hM : M.1.cls = RX6) (htr : l.stackTraces = false) {sh : List jH} {V : Nat → Nat → Int32} {R : Nat → Nat → Option Nat} {a1 : Int32} {a2 : Int32} {Q : Int32 → Prop} (hd : decode M.2.1 pc = .ok (.invokestatic 372, 3)) (hdd : 1 + 1 ≤ d) (hw8 : (rest.map fun v => v.category).sum ≤ 8) (hw : wX6_kth a1 a2 Q) (kk : ∀ r, Q r → J G l M d c n (pc + 3) lv (.int r :: rest) (mk sh V R) post xp) : J G l M d c n pc lv (.int a2 :: .int a1 :: rest) (mk sh V R) post xp :=
  J.callS (As := [.int a1, .int a2]) (hcw := by rw [hM]; exact lw_S q2605 q2606 q152 q2607) (mX6_kth htr hw) hd rfl ⟨by decide, by decide, by show _ = some 2; decide +kernel⟩ hw8 ⟨hdd, by decide⟩ jcc0 (fun r9 g9 h9 => by obtain ⟨rfl, r, rfl, h⟩ := h9; exact kk r h) jNo.x
theorem kX6_375 {G : jG} {l : Launch} {M : jM} {d c n pc : Nat} {lv : List (Nat × Value)} {rest : List Value} {post : Option Value → List jC → Prop} {xp : String → List jC → Prop} (hM : M.1.cls = RX6) (htr : l.stackTraces = false) {sh : List jH} {V : Nat → Nat → Int32} {R : Nat → Nat → Option Nat} {t : Nat} (hT : jReg shX6 sh t) {Q : Int32 → Prop} (hd : decode M.2.1 pc = .ok (.invokevirtual 375, 3)) (hdd : 2 + 1 ≤ d) (hw8 : (rest.map fun v => v.category).sum ≤ 8) (hw : wX6_rathers t V Q) (kk : ∀ r, Q r → J G l M d c n (pc + 3) lv (.int r :: rest) (mk sh V R) post xp) : J G l M d c n pc lv (.ref t :: rest) (mk sh V R) post xp :=
  J.callV (As := []) (hcw := by rw [hM]; exact lw_V q2608 q2610 qs129 q152 q2611) (mX6_rathers htr hT hw) hd rfl ⟨5, _, _, mk_at (hT.at 0 rfl), rfl, rfl, fun _ => rfl⟩ ⟨rfl, by decide, by decide, by show _ = some 0; decide +kernel⟩ hw8 ⟨hdd, by decide⟩ jcc0 (fun r9 g9 h9 => by obtain ⟨rfl, r, rfl, h⟩ := h9; exact kk r h) jNo.x
-- VisitingHoursModel.isWay(III)Z
abbrev MX6_isWay : jM := (yX6_isWay, cX6_isWay, 10, some .boolean, [])
def wX6_isWay_113 (t : Nat) (a1 : Int32) (a2 : Int32) (a3 : Int32) (Q : Int32 → (Nat → Nat → Int32) → Prop) (V : Nat → Nat → Int32) (x7 : Int32) : Prop :=
  ((x7 = 0 → Q (0 : Int32) V) ∧ (¬ x7 = 0 → wX6_rathers t V (fun r119 => ((¬ r119 = 0 → Q (0 : Int32) V) ∧ (r119 = 0 → Q (1 : Int32) V)))))
theorem rX6_isWay_113 {G : jG} {l : Launch} {d c n : Nat} (htr : l.stackTraces = false) (hdd : 3 ≤ d) {sh : List jH} {t : Nat} (hT : jReg shX6 sh t) {R : Nat → Nat → Option Nat} {a1 : Int32} {a2 : Int32} {a3 : Int32} {Q : Int32 → (Nat → Nat → Int32) → Prop} {V : Nat → Nat → Int32} {x7 : Int32} (hw : wX6_isWay_113 t a1 a2 a3 Q V x7) : J G l MX6_isWay d c n 113 [(0, .ref t), (7, .int x7)] [] (mk sh V R) (jWr sh R Q) jNo := by
  unfold wX6_isWay_113 at hw
  refine J.iload 1 dX6_isWay_113 rfl ?_
  refine J.if_eq 129 dX6_isWay_115 (by decide) ⟨fun c115 => ?_, fun c115 => ?_⟩
  · have hw := hw.1 c115
    refine J.iconst (v := (0 : Int32)) dX6_isWay_129 (by decide) ?_
    exact J.zret rfl rfl dX6_isWay_130 ⟨_, rfl, _, rfl, hw⟩
  · have hw := hw.2 c115
    refine J.aload_n 0 dX6_isWay_118 rfl ?_
    refine kX6_375 rfl htr hT dX6_isWay_119 (by omega) (Nat.le_of_ble_eq_true rfl) hw (fun r119 hw => ?_)
    refine J.if_ne 129 dX6_isWay_122 (by decide) ⟨fun c122 => ?_, fun c122 => ?_⟩
    · have hw := hw.1 c122
      refine J.iconst (v := (0 : Int32)) dX6_isWay_129 (by decide) ?_
      exact J.zret rfl rfl dX6_isWay_130 ⟨_, rfl, _, rfl, hw⟩
    · have hw := hw.2 c122
      refine J.iconst (v := (1 : Int32)) dX6_isWay_125 (by decide) ?_
      refine J.goto 130 dX6_isWay_126 (by decide) ?_
      exact J.zret rfl rfl dX6_isWay_130 ⟨_, rfl, _, rfl, hw⟩
def wX6_isWay_18 (t : Nat) (a1 : Int32) (a2 : Int32) (a3 : Int32) (Q : Int32 → (Nat → Nat → Int32) → Prop) : Nat → (Nat → Nat → Int32) → Int32 → Int32 → Int32 → Int32 → Int32 → Prop
  | 0, _, _, _, _, _, _ => False
  | f + 1, V, x4, x5, x6, x7, x8 =>
    (((V (t + 1) 3) ≤ x8 → wX6_isWay_113 t a1 a2 a3 Q V x7) ∧ (¬ (V (t + 1) 3) ≤ x8 → ((x7 = 0 → wX6_isWay_113 t a1 a2 a3 Q V x7) ∧ (¬ x7 = 0 → wX6_isOf a2 x8 (fun r37 => ((¬ r37 = 0 → (¬ x6 = 0 ∧ wX6_kth x5 (x4 - x4 / x6 * x6) (fun r53 => (¬ x6 = 0 ∧ (∀ y63 : Int32, y63 = (x4 / x6) → (∀ y65 : Int32, y65 = x6 + (-1 : Int32) → (∀ y77 : Int32, y77 = (x5 &&& (((1 : Int32) <<< (r53 &&& 31)) ^^^ (-1 : Int32))) → (vp_in x8 8 ∧ (vp_in r53 8 ∧ wX6_mayMeet t (vset (vset V (t + 7) x8.toNatClampNeg r53) (t + 8) r53.toNatClampNeg x8) x8 r53 (fun r102 => (∀ y107 : Int32, y107 = x8 + (1 : Int32) → wX6_isWay_18 t a1 a2 a3 Q f (vset (vset V (t + 7) x8.toNatClampNeg r53) (t + 8) r53.toNatClampNeg x8) y63 y77 y65 r102 y107))))))))))) ∧ (r37 = 0 → (∀ y107 : Int32, y107 = x8 + (1 : Int32) → wX6_isWay_18 t a1 a2 a3 Q f V x4 x5 x6 x7 y107))))))))
theorem rX6_isWay_18 {G : jG} {l : Launch} {d c n : Nat} (htr : l.stackTraces = false) (hdd : 3 ≤ d) {sh : List jH} {t : Nat} (hT : jReg shX6 sh t) {R : Nat → Nat → Option Nat} {a1 : Int32} {a2 : Int32} {a3 : Int32} {Q : Int32 → (Nat → Nat → Int32) → Prop} : ∀ (f : Nat) (V : Nat → Nat → Int32) (x4 : Int32) (x5 : Int32) (x6 : Int32) (x7 : Int32) (x8 : Int32), wX6_isWay_18 t a1 a2 a3 Q f V x4 x5 x6 x7 x8 → J G l MX6_isWay d c n 18 [(0, .ref t), (2, .int a2), (4, .int x4), (5, .int x5), (6, .int x6), (7, .int x7), (8, .int x8)] [] (mk sh V R) (jWr sh R Q) jNo := by
  intro f
  induction f with
  | zero =>
    intro V x4 x5 x6 x7 x8 hw
    rw [wX6_isWay_18] at hw
    exact hw.elim
  | succ f ih =>
    intro V x4 x5 x6 x7 x8 hw
    rw [wX6_isWay_18] at hw
    refine J.iload 6 dX6_isWay_18 rfl ?_
    refine J.aload_n 0 dX6_isWay_20 rfl ?_
    refine gX6_7 rfl hT dX6_isWay_21 ?_
    refine J.iconst (v := (3 : Int32)) dX6_isWay_24 (by decide) ?_
    refine JV.ialdK 3 dX6_isWay_25 (hT.ge 1) (hT.at 1 rfl) rfl (by decide) (by decide) ?_
    refine J.icmp_ge 113 dX6_isWay_26 (by decide) ⟨fun c26 => ?_, fun c26 => ?_⟩
    · have hw := hw.1 c26
      exact J.pick [0, 5] rfl (rX6_isWay_113 htr hdd hT hw)
    · have hw := hw.2 c26
      refine J.iload 5 dX6_isWay_29 rfl ?_
      refine J.if_eq 113 dX6_isWay_31 (by decide) ⟨fun c31 => ?_, fun c31 => ?_⟩
      · have hw := hw.1 c31
        exact J.pick [0, 5] rfl (rX6_isWay_113 htr hdd hT hw)
      · have hw := hw.2 c31
        refine J.iload_n 1 dX6_isWay_34 rfl ?_
        refine J.iload 6 dX6_isWay_35 rfl ?_
        refine kX6_74 rfl htr dX6_isWay_37 (by omega) (Nat.le_of_ble_eq_true rfl) hw (fun r37 hw => ?_)
        refine J.if_ne 46 dX6_isWay_40 (by decide) ⟨fun c40 => ?_, fun c40 => ?_⟩
        · have hw := hw.1 c40
          refine J.iload 3 dX6_isWay_46 rfl ?_
          refine J.iload 2 dX6_isWay_48 rfl ?_
          refine J.iload 4 dX6_isWay_50 rfl ?_
          obtain ⟨h52, hw⟩ := hw
          refine J.irem dX6_isWay_52 h52 ?_
          refine kX6_372 rfl htr dX6_isWay_53 (by omega) (Nat.le_of_ble_eq_true rfl) hw (fun r53 hw => ?_)
          refine J.istore (lv' := [(9, .int r53), (0, .ref t), (2, .int a2), (4, .int x4), (5, .int x5), (6, .int x6), (7, .int x7), (8, .int x8)]) dX6_isWay_56 (by decide) rfl ?_
          refine J.iload 3 dX6_isWay_58 rfl ?_
          refine J.iload 5 dX6_isWay_60 rfl ?_
          obtain ⟨h62, hw⟩ := hw
          refine J.idiv dX6_isWay_62 h62 ?_
          refine J.nm hw (fun y63 hw => ?_)
          refine J.istore (lv' := [(4, .int y63), (9, .int r53), (0, .ref t), (2, .int a2), (5, .int x5), (6, .int x6), (7, .int x7), (8, .int x8)]) dX6_isWay_63 (by decide) rfl ?_
          refine J.iincN 5 (K := (-1 : Int32)) (lv' := fun y65 => [(6, .int y65), (4, .int y63), (9, .int r53), (0, .ref t), (2, .int a2), (5, .int x5), (7, .int x7), (8, .int x8)]) dX6_isWay_65 rfl (by decide) (by decide) (fun _ => rfl) hw (fun y65 hw => ?_)
          refine J.iload 5 dX6_isWay_68 rfl ?_
          refine J.iconst (v := (1 : Int32)) dX6_isWay_70 (by decide) ?_
          refine J.iload 2 dX6_isWay_71 rfl ?_
          refine J.ishl dX6_isWay_73 ?_
          refine J.iconst (v := (-1 : Int32)) dX6_isWay_74 (by decide) ?_
          refine J.ixor dX6_isWay_75 ?_
          refine J.iand dX6_isWay_76 ?_
          refine J.nm hw (fun y77 hw => ?_)
          refine J.istore (lv' := [(5, .int y77), (6, .int y65), (4, .int y63), (9, .int r53), (0, .ref t), (2, .int a2), (7, .int x7), (8, .int x8)]) dX6_isWay_77 (by decide) rfl ?_
          refine J.aload_n 4 dX6_isWay_79 rfl ?_
          refine gX6_32 rfl hT dX6_isWay_80 ?_
          refine J.iload 7 dX6_isWay_83 rfl ?_
          refine J.iload 3 dX6_isWay_85 rfl ?_
          obtain ⟨h87, hw⟩ := hw
          refine JV.iast dX6_isWay_87 (hT.ge 7) (hT.at 7 rfl) h87 ?_
          refine J.aload_n 4 dX6_isWay_88 rfl ?_
          refine gX6_35 rfl hT dX6_isWay_89 ?_
          refine J.iload 3 dX6_isWay_92 rfl ?_
          refine J.iload 7 dX6_isWay_94 rfl ?_
          obtain ⟨h96, hw⟩ := hw
          refine JV.iast dX6_isWay_96 (hT.ge 8) (hT.at 8 rfl) h96 ?_
          refine J.aload_n 4 dX6_isWay_97 rfl ?_
          refine J.iload 7 dX6_isWay_98 rfl ?_
          refine J.iload 3 dX6_isWay_100 rfl ?_
          refine kX6_78 rfl htr hT dX6_isWay_102 (by omega) (Nat.le_of_ble_eq_true rfl) hw (fun r102 hw => ?_)
          refine J.istore (lv' := [(7, .int r102), (5, .int y77), (6, .int y65), (4, .int y63), (9, .int r53), (0, .ref t), (2, .int a2), (8, .int x8)]) dX6_isWay_105 (by decide) rfl ?_
          refine J.iincN 7 (K := (1 : Int32)) (lv' := fun y107 => [(8, .int y107), (7, .int r102), (5, .int y77), (6, .int y65), (4, .int y63), (9, .int r53), (0, .ref t), (2, .int a2)]) dX6_isWay_107 rfl (by decide) (by decide) (fun _ => rfl) hw (fun y107 hw => ?_)
          refine J.goto 18 dX6_isWay_110 (by decide) ?_
          exact J.pick [6, 7, 4, 2, 3, 1, 0] rfl (ih _ _ _ _ _ _ hw)
        · have hw := hw.2 c40
          refine J.goto 107 dX6_isWay_43 (by decide) ?_
          refine J.iincN 6 (K := (1 : Int32)) (lv' := fun y107 => [(8, .int y107), (0, .ref t), (2, .int a2), (4, .int x4), (5, .int x5), (6, .int x6), (7, .int x7)]) dX6_isWay_107 rfl (by decide) (by decide) (fun _ => rfl) hw (fun y107 hw => ?_)
          refine J.goto 18 dX6_isWay_110 (by decide) ?_
          exact J.pick [1, 2, 3, 4, 5, 6, 0] rfl (ih _ _ _ _ _ _ hw)
def wX6_isWay (t : Nat) (V : Nat → Nat → Int32) (a1 : Int32) (a2 : Int32) (a3 : Int32) (Q : Int32 → (Nat → Nat → Int32) → Prop) : Prop :=
  wX6_bits a2 (fun r7 => (∃ f9, wX6_isWay_18 t a1 a2 a3 Q f9 V a1 a3 r7 (1 : Int32) (0 : Int32)))
theorem mX6_isWay {G : jG} {l : Launch} (htr : l.stackTraces = false) {sh : List jH} {V : Nat → Nat → Int32} {R : Nat → Nat → Option Nat} {t : Nat} (hT : jReg shX6 sh t) {a1 : Int32} {a2 : Int32} {a3 : Int32} {Q : Int32 → (Nat → Nat → Int32) → Prop} (hw : wX6_isWay t V a1 a2 a3 Q) : JM G l MX6_isWay 3 0 0 [.ref t, .int a1, .int a2, .int a3] (mk sh V R) (jWr sh R Q) jNo := by
  refine JM.intro (by decide) rfl htr (Nat.le_of_ble_eq_true rfl) ?_
  show J G l MX6_isWay 3 0 0 0 [(0, .ref t), (1, .int a1), (2, .int a2), (3, .int a3)] [] (mk sh V R) _ _
  unfold wX6_isWay at hw
  refine J.iload_n 1 dX6_isWay_0 rfl ?_
  refine J.istore (lv' := [(4, .int a1), (0, .ref t), (1, .int a1), (2, .int a2), (3, .int a3)]) dX6_isWay_1 (by decide) rfl ?_
  refine J.iload_n 4 dX6_isWay_3 rfl ?_
  refine J.istore (lv' := [(5, .int a3), (4, .int a1), (0, .ref t), (1, .int a1), (2, .int a2), (3, .int a3)]) dX6_isWay_4 (by decide) rfl ?_
  refine J.iload_n 4 dX6_isWay_6 rfl ?_
  refine kX6_303 rfl htr dX6_isWay_7 (by omega) (Nat.le_of_ble_eq_true rfl) hw (fun r7 hw => ?_)
  refine J.istore (lv' := [(6, .int r7), (5, .int a3), (4, .int a1), (0, .ref t), (1, .int a1), (2, .int a2), (3, .int a3)]) dX6_isWay_10 (by decide) rfl ?_
  refine J.iconst (v := (1 : Int32)) dX6_isWay_12 (by decide) ?_
  refine J.istore (lv' := [(7, .int (1 : Int32)), (6, .int r7), (5, .int a3), (4, .int a1), (0, .ref t), (1, .int a1), (2, .int a2), (3, .int a3)]) dX6_isWay_13 (by decide) rfl ?_
  refine J.iconst (v := (0 : Int32)) dX6_isWay_15 (by decide) ?_
  refine J.istore (lv' := [(8, .int (0 : Int32)), (7, .int (1 : Int32)), (6, .int r7), (5, .int a3), (4, .int a1), (0, .ref t), (1, .int a1), (2, .int a2), (3, .int a3)]) dX6_isWay_16 (by decide) rfl ?_
  obtain ⟨f9, hw⟩ := hw
  exact J.pick [5, 7, 4, 3, 2, 1, 0] rfl (rX6_isWay_18 htr (Nat.le_refl _) hT f9 _ _ _ _ _ _ hw)
-- VisitingHoursModel.logged(II)I
abbrev MX6_logged : jM := (yX6_logged, cX6_logged, 3, some .int, [])
def wX6_logged (t : Nat) (V : Nat → Nat → Int32) (a1 : Int32) (a2 : Int32) (Q : Int32 → Prop) : Prop :=
  (vp_in (((259 : Int32) + ((6 : Int32) * a1)) + a2) 1019 ∧ Q (V (t + 1) (((259 : Int32) + ((6 : Int32) * a1)) + a2).toNatClampNeg))
theorem mX6_logged {G : jG} {l : Launch} (htr : l.stackTraces = false) {sh : List jH} {V : Nat → Nat → Int32} {R : Nat → Nat → Option Nat} {t : Nat} (hT : jReg shX6 sh t) {a1 : Int32} {a2 : Int32} {Q : Int32 → Prop} (hw : wX6_logged t V a1 a2 Q) : JM G l MX6_logged 0 0 0 [.ref t, .int a1, .int a2] (mk sh V R) (jRd (mk sh V R) Q) jNo := by
  refine JM.intro (by decide) rfl htr (Nat.le_of_ble_eq_true rfl) ?_
  show J G l MX6_logged 0 0 0 0 [(0, .ref t), (1, .int a1), (2, .int a2)] [] (mk sh V R) _ _
  unfold wX6_logged at hw
  refine J.aload_n 0 dX6_logged_0 rfl ?_
  refine gX6_7 rfl hT dX6_logged_1 ?_
  refine J.sipush (v := (259 : Int32)) dX6_logged_4 (by decide) ?_
  refine J.bipush (v := (6 : Int32)) dX6_logged_7 (by decide) ?_
  refine J.iload_n 1 dX6_logged_9 rfl ?_
  refine J.imul dX6_logged_10 ?_
  refine J.iadd dX6_logged_11 ?_
  refine J.iload_n 2 dX6_logged_12 rfl ?_
  refine J.iadd dX6_logged_13 ?_
  obtain ⟨h14, hw⟩ := hw
  refine JV.iald dX6_logged_14 (hT.ge 1) (hT.at 1 rfl) h14 ?_
  exact J.iret rfl dX6_logged_15 ⟨rfl, _, rfl, hw⟩
theorem kX6_427 {G : jG} {l : Launch} {M : jM} {d c n pc : Nat} {lv : List (Nat × Value)} {rest : List Value} {post : Option Value → List jC → Prop} {xp : String → List jC → Prop} (hM : M.1.cls = RX6) (htr : l.stackTraces = false) {sh : List jH} {V : Nat → Nat → Int32} {R : Nat → Nat → Option Nat} {t : Nat} (hT : jReg shX6 sh t) {a1 : Int32} {a2 : Int32} {Q : Int32 → Prop} (hd : decode M.2.1 pc = .ok (.invokevirtual 427, 3)) (hdd : 0 + 1 ≤ d) (hw8 : (rest.map fun v => v.category).sum ≤ 8) (hw : wX6_logged t V a1 a2 Q) (kk : ∀ r, Q r → J G l M d c n (pc + 3) lv (.int r :: rest) (mk sh V R) post xp) : J G l M d c n pc lv (.int a2 :: .int a1 :: .ref t :: rest) (mk sh V R) post xp :=
  J.callV (As := [.int a1, .int a2]) (hcw := by rw [hM]; exact lw_V q2755 q2757 qs141 q152 q2758) (mX6_logged htr hT hw) hd rfl ⟨5, _, _, mk_at (hT.at 0 rfl), rfl, rfl, fun _ => rfl⟩ ⟨rfl, by decide, by decide, by show _ = some 2; decide +kernel⟩ hw8 ⟨hdd, by decide⟩ jcc0 (fun r9 g9 h9 => by obtain ⟨rfl, r, rfl, h⟩ := h9; exact kk r h) jNo.x
-- VisitingHoursModel.led(IZ)I
abbrev MX6_led : jM := (yX6_led, cX6_led, 6, some .int, [])
def wX6_led_42 (t : Nat) (a1 : Int32) (a2 : Int32) (Q : Int32 → (Nat → Nat → Int32) → Prop) : Nat → (Nat → Nat → Int32) → Int32 → Int32 → Int32 → Prop
  | 0, _, _, _, _ => False
  | f + 1, V, x3, x4, x5 =>
    ((x5 < 0 → ((a2 = 0 → Q x3 V) ∧ (¬ a2 = 0 → Q x4 V))) ∧ (¬ x5 < 0 → wX6_logged t V x5 (1 : Int32) (fun r51 => ((r51 = a1 → (∀ y61 : Int32, y61 = x3 + (1 : Int32) → wX6_logged t V x5 (0 : Int32) (fun r68 => (∀ y73 : Int32, y73 = x5 + (-1 : Int32) → wX6_led_42 t a1 a2 Q f V y61 r68 y73)))) ∧ (¬ r51 = a1 → (∀ y73 : Int32, y73 = x5 + (-1 : Int32) → wX6_led_42 t a1 a2 Q f V x3 x4 y73))))))
theorem rX6_led_42 {G : jG} {l : Launch} {d c n : Nat} (htr : l.stackTraces = false) (hdd : 2 ≤ d) {sh : List jH} {t : Nat} (hT : jReg shX6 sh t) {R : Nat → Nat → Option Nat} {a1 : Int32} {a2 : Int32} {Q : Int32 → (Nat → Nat → Int32) → Prop} : ∀ (f : Nat) (V : Nat → Nat → Int32) (x3 : Int32) (x4 : Int32) (x5 : Int32), wX6_led_42 t a1 a2 Q f V x3 x4 x5 → J G l MX6_led d c n 42 [(0, .ref t), (1, .int a1), (2, .int a2), (3, .int x3), (4, .int x4), (5, .int x5)] [] (mk sh V R) (jWr sh R Q) jNo := by
  intro f
  induction f with
  | zero =>
    intro V x3 x4 x5 hw
    rw [wX6_led_42] at hw
    exact hw.elim
  | succ f ih =>
    intro V x3 x4 x5 hw
    rw [wX6_led_42] at hw
    refine J.iload 5 dX6_led_42 rfl ?_
    refine J.if_lt 79 dX6_led_44 (by decide) ⟨fun c44 => ?_, fun c44 => ?_⟩
    · have hw := hw.1 c44
      refine J.iload_n 2 dX6_led_79 rfl ?_
      refine J.if_eq 88 dX6_led_80 (by decide) ⟨fun c80 => ?_, fun c80 => ?_⟩
      · have hw := hw.1 c80
        refine J.iload_n 3 dX6_led_88 rfl ?_
        exact J.iret rfl dX6_led_89 ⟨_, rfl, _, rfl, hw⟩
      · have hw := hw.2 c80
        refine J.iload 4 dX6_led_83 rfl ?_
        refine J.goto 89 dX6_led_85 (by decide) ?_
        exact J.iret rfl dX6_led_89 ⟨_, rfl, _, rfl, hw⟩
    · have hw := hw.2 c44
      refine J.aload_n 0 dX6_led_47 rfl ?_
      refine J.iload 5 dX6_led_48 rfl ?_
      refine J.iconst (v := (1 : Int32)) dX6_led_50 (by decide) ?_
      refine kX6_427 rfl htr hT dX6_led_51 (by omega) (Nat.le_of_ble_eq_true rfl) hw (fun r51 hw => ?_)
      refine J.iload_n 1 dX6_led_54 rfl ?_
      refine J.icmp_eq 61 dX6_led_55 (by decide) ⟨fun c55 => ?_, fun c55 => ?_⟩
      · have hw := hw.1 c55
        refine J.iincN 3 (K := (1 : Int32)) (lv' := fun y61 => [(3, .int y61), (0, .ref t), (1, .int a1), (2, .int a2), (4, .int x4), (5, .int x5)]) dX6_led_61 rfl (by decide) (by decide) (fun _ => rfl) hw (fun y61 hw => ?_)
        refine J.aload_n 1 dX6_led_64 rfl ?_
        refine J.iload 5 dX6_led_65 rfl ?_
        refine J.iconst (v := (0 : Int32)) dX6_led_67 (by decide) ?_
        refine kX6_427 rfl htr hT dX6_led_68 (by omega) (Nat.le_of_ble_eq_true rfl) hw (fun r68 hw => ?_)
        refine J.istore (lv' := [(4, .int r68), (3, .int y61), (0, .ref t), (1, .int a1), (2, .int a2), (5, .int x5)]) dX6_led_71 (by decide) rfl ?_
        refine J.iincN 5 (K := (-1 : Int32)) (lv' := fun y73 => [(5, .int y73), (4, .int r68), (3, .int y61), (0, .ref t), (1, .int a1), (2, .int a2)]) dX6_led_73 rfl (by decide) (by decide) (fun _ => rfl) hw (fun y73 hw => ?_)
        refine J.goto 42 dX6_led_76 (by decide) ?_
        exact J.pick [3, 4, 5, 2, 1, 0] rfl (ih _ _ _ _ hw)
      · have hw := hw.2 c55
        refine J.goto 73 dX6_led_58 (by decide) ?_
        refine J.iincN 5 (K := (-1 : Int32)) (lv' := fun y73 => [(5, .int y73), (0, .ref t), (1, .int a1), (2, .int a2), (3, .int x3), (4, .int x4)]) dX6_led_73 rfl (by decide) (by decide) (fun _ => rfl) hw (fun y73 hw => ?_)
        refine J.goto 42 dX6_led_76 (by decide) ?_
        exact J.pick [1, 2, 3, 4, 5, 0] rfl (ih _ _ _ _ hw)
def wX6_led_14 (t : Nat) (a1 : Int32) (a2 : Int32) (Q : Int32 → (Nat → Nat → Int32) → Prop) (V : Nat → Nat → Int32) (s1 : Int32) : Prop :=
  ((((vset V t 0 s1) t 0) ≤ 0 → (∀ y40 : Int32, y40 = (((vset V t 0 s1) (t + 1) 9) - (1 : Int32)) → (∃ f9, wX6_led_42 t a1 a2 Q f9 (vset V t 0 s1) (0 : Int32) (-1 : Int32) y40))) ∧ (¬ ((vset V t 0 s1) t 0) ≤ 0 → Q (0 : Int32) (vset V t 0 s1)))
theorem rX6_led_14 {G : jG} {l : Launch} {d c n : Nat} (htr : l.stackTraces = false) (hdd : 2 ≤ d) {sh : List jH} {t : Nat} (hT : jReg shX6 sh t) {R : Nat → Nat → Option Nat} {a1 : Int32} {a2 : Int32} {Q : Int32 → (Nat → Nat → Int32) → Prop} {V : Nat → Nat → Int32} {s1 : Int32} (hw : wX6_led_14 t a1 a2 Q V s1) : J G l MX6_led d c n 14 [(0, .ref t), (1, .int a1), (2, .int a2)] [.int s1, .ref t] (mk sh V R) (jWr sh R Q) jNo := by
  unfold wX6_led_14 at hw
  refine pX6_54 rfl hT dX6_led_14 ?_
  refine J.aload_n 0 dX6_led_17 rfl ?_
  refine gX6_54 rfl hT dX6_led_18 ?_
  refine J.if_le 26 dX6_led_21 (by decide) ⟨fun c21 => ?_, fun c21 => ?_⟩
  · have hw := hw.1 c21
    refine J.iconst (v := (0 : Int32)) dX6_led_26 (by decide) ?_
    refine J.istore_n (lv' := [(3, .int (0 : Int32)), (0, .ref t), (1, .int a1), (2, .int a2)]) dX6_led_27 (by decide) rfl ?_
    refine J.iconst (v := (-1 : Int32)) dX6_led_28 (by decide) ?_
    refine J.istore (lv' := [(4, .int (-1 : Int32)), (3, .int (0 : Int32)), (0, .ref t), (1, .int a1), (2, .int a2)]) dX6_led_29 (by decide) rfl ?_
    refine J.aload_n 2 dX6_led_31 rfl ?_
    refine gX6_7 rfl hT dX6_led_32 ?_
    refine J.bipush (v := (9 : Int32)) dX6_led_35 (by decide) ?_
    refine JV.ialdK 9 dX6_led_37 (hT.ge 1) (hT.at 1 rfl) rfl (by decide) (by decide) ?_
    refine J.iconst (v := (1 : Int32)) dX6_led_38 (by decide) ?_
    refine J.isub dX6_led_39 ?_
    refine J.nm hw (fun y40 hw => ?_)
    refine J.istore (lv' := [(5, .int y40), (4, .int (-1 : Int32)), (3, .int (0 : Int32)), (0, .ref t), (1, .int a1), (2, .int a2)]) dX6_led_40 (by decide) rfl ?_
    obtain ⟨f9, hw⟩ := hw
    exact J.pick [3, 4, 5, 2, 1, 0] rfl (rX6_led_42 htr hdd hT f9 _ _ _ _ hw)
  · have hw := hw.2 c21
    refine J.iconst (v := (0 : Int32)) dX6_led_24 (by decide) ?_
    exact J.iret rfl dX6_led_25 ⟨_, rfl, _, rfl, hw⟩
def wX6_led (t : Nat) (V : Nat → Nat → Int32) (a1 : Int32) (a2 : Int32) (Q : Int32 → (Nat → Nat → Int32) → Prop) : Prop :=
  wX6_isHost t V a1 (fun r3 => ((¬ r3 = 0 → wX6_led_14 t a1 a2 Q V (0 : Int32)) ∧ (r3 = 0 → wX6_led_14 t a1 a2 Q V (1 : Int32))))
theorem mX6_led {G : jG} {l : Launch} (htr : l.stackTraces = false) {sh : List jH} {V : Nat → Nat → Int32} {R : Nat → Nat → Option Nat} {t : Nat} (hT : jReg shX6 sh t) {a1 : Int32} {a2 : Int32} {Q : Int32 → (Nat → Nat → Int32) → Prop} (hw : wX6_led t V a1 a2 Q) : JM G l MX6_led 2 0 0 [.ref t, .int a1, .int a2] (mk sh V R) (jWr sh R Q) jNo := by
  refine JM.intro (by decide) rfl htr (Nat.le_of_ble_eq_true rfl) ?_
  show J G l MX6_led 2 0 0 0 [(0, .ref t), (1, .int a1), (2, .int a2)] [] (mk sh V R) _ _
  unfold wX6_led at hw
  refine J.aload_n 0 dX6_led_0 rfl ?_
  refine J.aload_n 0 dX6_led_1 rfl ?_
  refine J.iload_n 1 dX6_led_2 rfl ?_
  refine kX6_310 rfl htr hT dX6_led_3 (by omega) (Nat.le_of_ble_eq_true rfl) hw (fun r3 hw => ?_)
  refine J.if_ne 13 dX6_led_6 (by decide) ⟨fun c6 => ?_, fun c6 => ?_⟩
  · have hw := hw.1 c6
    refine J.iconst (v := (0 : Int32)) dX6_led_13 (by decide) ?_
    exact (rX6_led_14 htr (Nat.le_refl _) hT hw)
  · have hw := hw.2 c6
    refine J.iconst (v := (1 : Int32)) dX6_led_9 (by decide) ?_
    refine J.goto 14 dX6_led_10 (by decide) ?_
    exact (rX6_led_14 htr (Nat.le_refl _) hT hw)
-- VisitingHoursModel.lend(I)I
abbrev MX6_lend : jM := (yX6_lend, cX6_lend, 2, some .int, [])
def wX6_lend_19 (t : Nat) (a1 : Int32) (Q : Int32 → (Nat → Nat → Int32) → Prop) (V : Nat → Nat → Int32) (s1 : Int32) : Prop :=
  ((((vset V t 0 s1) t 0) ≤ 0 → wX6_fills t (vset V t 0 s1) ((vset V t 0 s1) (t + 1) 4) ((vset V t 0 s1) (t + 1) 3) (-1 : Int32) (255 : Int32) (fun V48 => ((¬ a1 = (-1 : Int32) → wX6_firstOf t V48 a1 (V48 (t + 1) 3) (-1 : Int32) (255 : Int32) (fun r77 => Q r77 V48)) ∧ (a1 = (-1 : Int32) → Q (V48 (t + 11) 0) V48)))) ∧ (¬ ((vset V t 0 s1) t 0) ≤ 0 → Q (0 : Int32) (vset V t 0 s1)))
theorem rX6_lend_19 {G : jG} {l : Launch} {d c n : Nat} (htr : l.stackTraces = false) (hdd : 5 ≤ d) {sh : List jH} {t : Nat} (hT : jReg shX6 sh t) {R : Nat → Nat → Option Nat} {a1 : Int32} {Q : Int32 → (Nat → Nat → Int32) → Prop} {V : Nat → Nat → Int32} {s1 : Int32} (hw : wX6_lend_19 t a1 Q V s1) : J G l MX6_lend d c n 19 [(0, .ref t), (1, .int a1)] [.int s1, .ref t] (mk sh V R) (jWr sh R Q) jNo := by
  unfold wX6_lend_19 at hw
  refine pX6_54 rfl hT dX6_lend_19 ?_
  refine J.aload_n 0 dX6_lend_22 rfl ?_
  refine gX6_54 rfl hT dX6_lend_23 ?_
  refine J.if_le 31 dX6_lend_26 (by decide) ⟨fun c26 => ?_, fun c26 => ?_⟩
  · have hw := hw.1 c26
    refine J.aload_n 0 dX6_lend_31 rfl ?_
    refine J.aload_n 0 dX6_lend_32 rfl ?_
    refine gX6_7 rfl hT dX6_lend_33 ?_
    refine J.iconst (v := (4 : Int32)) dX6_lend_36 (by decide) ?_
    refine JV.ialdK 4 dX6_lend_37 (hT.ge 1) (hT.at 1 rfl) rfl (by decide) (by decide) ?_
    refine J.aload_n 0 dX6_lend_38 rfl ?_
    refine gX6_7 rfl hT dX6_lend_39 ?_
    refine J.iconst (v := (3 : Int32)) dX6_lend_42 (by decide) ?_
    refine JV.ialdK 3 dX6_lend_43 (hT.ge 1) (hT.at 1 rfl) rfl (by decide) (by decide) ?_
    refine J.iconst (v := (-1 : Int32)) dX6_lend_44 (by decide) ?_
    refine J.sipush (v := (255 : Int32)) dX6_lend_45 (by decide) ?_
    refine kX6_389 rfl htr hT dX6_lend_48 (by omega) (Nat.le_of_ble_eq_true rfl) hw (fun V48 hw => ?_)
    refine J.iload_n 1 dX6_lend_51 rfl ?_
    refine J.iconst (v := (-1 : Int32)) dX6_lend_52 (by decide) ?_
    refine J.icmp_ne 65 dX6_lend_53 (by decide) ⟨fun c53 => ?_, fun c53 => ?_⟩
    · have hw := hw.1 c53
      refine J.aload_n 0 dX6_lend_65 rfl ?_
      refine J.iload_n 1 dX6_lend_66 rfl ?_
      refine J.aload_n 0 dX6_lend_67 rfl ?_
      refine gX6_7 rfl hT dX6_lend_68 ?_
      refine J.iconst (v := (3 : Int32)) dX6_lend_71 (by decide) ?_
      refine JV.ialdK 3 dX6_lend_72 (hT.ge 1) (hT.at 1 rfl) rfl (by decide) (by decide) ?_
      refine J.iconst (v := (-1 : Int32)) dX6_lend_73 (by decide) ?_
      refine J.sipush (v := (255 : Int32)) dX6_lend_74 (by decide) ?_
      refine kX6_393 rfl htr hT dX6_lend_77 (by omega) (Nat.le_of_ble_eq_true rfl) hw (fun r77 hw => ?_)
      exact J.iret rfl dX6_lend_80 ⟨_, rfl, _, rfl, hw⟩
    · have hw := hw.2 c53
      refine J.aload_n 0 dX6_lend_56 rfl ?_
      refine gX6_44 rfl hT dX6_lend_57 ?_
      refine J.iconst (v := (0 : Int32)) dX6_lend_60 (by decide) ?_
      refine JV.ialdK 0 dX6_lend_61 (hT.ge 11) (hT.at 11 rfl) rfl (by decide) (by decide) ?_
      refine J.goto 80 dX6_lend_62 (by decide) ?_
      exact J.iret rfl dX6_lend_80 ⟨_, rfl, _, rfl, hw⟩
  · have hw := hw.2 c26
    refine J.iconst (v := (0 : Int32)) dX6_lend_29 (by decide) ?_
    exact J.iret rfl dX6_lend_30 ⟨_, rfl, _, rfl, hw⟩
def wX6_lend_18 (t : Nat) (a1 : Int32) (Q : Int32 → (Nat → Nat → Int32) → Prop) (V : Nat → Nat → Int32) : Prop :=
  wX6_lend_19 t a1 Q V (0 : Int32)
theorem rX6_lend_18 {G : jG} {l : Launch} {d c n : Nat} (htr : l.stackTraces = false) (hdd : 5 ≤ d) {sh : List jH} {t : Nat} (hT : jReg shX6 sh t) {R : Nat → Nat → Option Nat} {a1 : Int32} {Q : Int32 → (Nat → Nat → Int32) → Prop} {V : Nat → Nat → Int32} (hw : wX6_lend_18 t a1 Q V) : J G l MX6_lend d c n 18 [(0, .ref t), (1, .int a1)] [.ref t] (mk sh V R) (jWr sh R Q) jNo := by
  unfold wX6_lend_18 at hw
  refine J.iconst (v := (0 : Int32)) dX6_lend_18 (by decide) ?_
  exact (rX6_lend_19 htr hdd hT hw)
def wX6_lend (t : Nat) (V : Nat → Nat → Int32) (a1 : Int32) (Q : Int32 → (Nat → Nat → Int32) → Prop) : Prop :=
  ((a1 = (-1 : Int32) → wX6_lend_18 t a1 Q V) ∧ (¬ a1 = (-1 : Int32) → wX6_isGuest t V a1 (fun r8 => ((¬ r8 = 0 → wX6_lend_18 t a1 Q V) ∧ (r8 = 0 → wX6_lend_19 t a1 Q V (1 : Int32))))))
theorem mX6_lend {G : jG} {l : Launch} (htr : l.stackTraces = false) {sh : List jH} {V : Nat → Nat → Int32} {R : Nat → Nat → Option Nat} {t : Nat} (hT : jReg shX6 sh t) {a1 : Int32} {Q : Int32 → (Nat → Nat → Int32) → Prop} (hw : wX6_lend t V a1 Q) : JM G l MX6_lend 5 0 0 [.ref t, .int a1] (mk sh V R) (jWr sh R Q) jNo := by
  refine JM.intro (by decide) rfl htr (Nat.le_of_ble_eq_true rfl) ?_
  show J G l MX6_lend 5 0 0 0 [(0, .ref t), (1, .int a1)] [] (mk sh V R) _ _
  unfold wX6_lend at hw
  refine J.aload_n 0 dX6_lend_0 rfl ?_
  refine J.iload_n 1 dX6_lend_1 rfl ?_
  refine J.iconst (v := (-1 : Int32)) dX6_lend_2 (by decide) ?_
  refine J.icmp_eq 18 dX6_lend_3 (by decide) ⟨fun c3 => ?_, fun c3 => ?_⟩
  · have hw := hw.1 c3
    exact (rX6_lend_18 htr (Nat.le_refl _) hT hw)
  · have hw := hw.2 c3
    refine J.aload_n 0 dX6_lend_6 rfl ?_
    refine J.iload_n 1 dX6_lend_7 rfl ?_
    refine kX6_322 rfl htr hT dX6_lend_8 (by omega) (Nat.le_of_ble_eq_true rfl) hw (fun r8 hw => ?_)
    refine J.if_ne 18 dX6_lend_11 (by decide) ⟨fun c11 => ?_, fun c11 => ?_⟩
    · have hw := hw.1 c11
      exact (rX6_lend_18 htr (Nat.le_refl _) hT hw)
    · have hw := hw.2 c11
      refine J.iconst (v := (1 : Int32)) dX6_lend_14 (by decide) ?_
      refine J.goto 19 dX6_lend_15 (by decide) ?_
      exact (rX6_lend_19 htr (Nat.le_refl _) hT hw)
theorem gX6_84 {G : jG} {l : Launch} {M : jM} {d c n pc : Nat} {lv : List (Nat × Value)} {st : List Value} {sh : List jH} {V : Nat → Nat → Int32} {R : Nat → Nat → Option Nat} {post : Option Value → List jC → Prop} {xp : String → List jC → Prop} {t : Nat} (hM : M.1.cls = RX6) (hT : jReg shX6 sh t) (hd : decode M.2.1 pc = .ok (.getfield 84, 3)) (kk : J G l M d c n (pc + 3) lv (.int (V t 9) :: st) (mk sh V R) post xp) : J G l M d c n pc lv (.ref t :: st) (mk sh V R) post xp := JV.getf (C := RX6) (T0 := TX6) (N := 28) 9 hd hT.1 (hT.at 0 rfl) rfl in_X6 (by decide) (by rw [hM]; exact q2137) rfl rfl kk
-- VisitingHoursModel.letter(I)I
abbrev MX6_letter : jM := (yX6_letter, cX6_letter, 2, some .int, [])
def wX6_letter (t : Nat) (V : Nat → Nat → Int32) (a1 : Int32) (Q : Int32 → Prop) : Prop :=
  ((¬ (V t 9) = (-1 : Int32) → (vp_in ((V t 9) + a1) 1019 ∧ Q (V (t + 1) ((V t 9) + a1).toNatClampNeg))) ∧ ((V t 9) = (-1 : Int32) → (vp_in a1 400 ∧ Q (V (t + 5) a1.toNatClampNeg))))
theorem mX6_letter {G : jG} {l : Launch} (htr : l.stackTraces = false) {sh : List jH} {V : Nat → Nat → Int32} {R : Nat → Nat → Option Nat} {t : Nat} (hT : jReg shX6 sh t) {a1 : Int32} {Q : Int32 → Prop} (hw : wX6_letter t V a1 Q) : JM G l MX6_letter 0 0 0 [.ref t, .int a1] (mk sh V R) (jRd (mk sh V R) Q) jNo := by
  refine JM.intro (by decide) rfl htr (Nat.le_of_ble_eq_true rfl) ?_
  show J G l MX6_letter 0 0 0 0 [(0, .ref t), (1, .int a1)] [] (mk sh V R) _ _
  unfold wX6_letter at hw
  refine J.aload_n 0 dX6_letter_0 rfl ?_
  refine gX6_84 rfl hT dX6_letter_1 ?_
  refine J.iconst (v := (-1 : Int32)) dX6_letter_4 (by decide) ?_
  refine J.icmp_ne 17 dX6_letter_5 (by decide) ⟨fun c5 => ?_, fun c5 => ?_⟩
  · have hw := hw.1 c5
    refine J.aload_n 0 dX6_letter_17 rfl ?_
    refine gX6_7 rfl hT dX6_letter_18 ?_
    refine J.aload_n 0 dX6_letter_21 rfl ?_
    refine gX6_84 rfl hT dX6_letter_22 ?_
    refine J.iload_n 1 dX6_letter_25 rfl ?_
    refine J.iadd dX6_letter_26 ?_
    obtain ⟨h27, hw⟩ := hw
    refine JV.iald dX6_letter_27 (hT.ge 1) (hT.at 1 rfl) h27 ?_
    exact J.iret rfl dX6_letter_28 ⟨rfl, _, rfl, hw⟩
  · have hw := hw.2 c5
    refine J.aload_n 0 dX6_letter_8 rfl ?_
    refine gX6_22 rfl hT dX6_letter_9 ?_
    refine J.iload_n 1 dX6_letter_12 rfl ?_
    obtain ⟨h13, hw⟩ := hw
    refine JV.iald dX6_letter_13 (hT.ge 5) (hT.at 5 rfl) h13 ?_
    refine J.goto 28 dX6_letter_14 (by decide) ?_
    exact J.iret rfl dX6_letter_28 ⟨rfl, _, rfl, hw⟩
-- VisitingHoursModel.log(II)I
abbrev MX6_log : jM := (yX6_log, cX6_log, 3, some .int, [])
def wX6_log_15 (t : Nat) (a1 : Int32) (a2 : Int32) (Q : Int32 → (Nat → Nat → Int32) → Prop) (V : Nat → Nat → Int32) (s1 : Int32) : Prop :=
  ((((vset V t 0 s1) t 0) ≤ 0 → wX6_isIn a1 (0 : Int32) (((vset V t 0 s1) (t + 1) 9) - (1 : Int32)) (fun r38 => ((r38 = 0 → Q (-2 : Int32) (vset V t 0 s1)) ∧ (¬ r38 = 0 → wX6_logged t (vset V t 0 s1) a1 a2 (fun r47 => Q r47 (vset V t 0 s1)))))) ∧ (¬ ((vset V t 0 s1) t 0) ≤ 0 → Q (0 : Int32) (vset V t 0 s1)))
theorem rX6_log_15 {G : jG} {l : Launch} {d c n : Nat} (htr : l.stackTraces = false) (hdd : 1 ≤ d) {sh : List jH} {t : Nat} (hT : jReg shX6 sh t) {R : Nat → Nat → Option Nat} {a1 : Int32} {a2 : Int32} {Q : Int32 → (Nat → Nat → Int32) → Prop} {V : Nat → Nat → Int32} {s1 : Int32} (hw : wX6_log_15 t a1 a2 Q V s1) : J G l MX6_log d c n 15 [(0, .ref t), (1, .int a1), (2, .int a2)] [.int s1, .ref t] (mk sh V R) (jWr sh R Q) jNo := by
  unfold wX6_log_15 at hw
  refine pX6_54 rfl hT dX6_log_15 ?_
  refine J.aload_n 0 dX6_log_18 rfl ?_
  refine gX6_54 rfl hT dX6_log_19 ?_
  refine J.if_le 27 dX6_log_22 (by decide) ⟨fun c22 => ?_, fun c22 => ?_⟩
  · have hw := hw.1 c22
    refine J.iload_n 1 dX6_log_27 rfl ?_
    refine J.iconst (v := (0 : Int32)) dX6_log_28 (by decide) ?_
    refine J.aload_n 0 dX6_log_29 rfl ?_
    refine gX6_7 rfl hT dX6_log_30 ?_
    refine J.bipush (v := (9 : Int32)) dX6_log_33 (by decide) ?_
    refine JV.ialdK 9 dX6_log_35 (hT.ge 1) (hT.at 1 rfl) rfl (by decide) (by decide) ?_
    refine J.iconst (v := (1 : Int32)) dX6_log_36 (by decide) ?_
    refine J.isub dX6_log_37 ?_
    refine kX6_57 rfl htr dX6_log_38 (by omega) (Nat.le_of_ble_eq_true rfl) hw (fun r38 hw => ?_)
    refine J.if_eq 53 dX6_log_41 (by decide) ⟨fun c41 => ?_, fun c41 => ?_⟩
    · have hw := hw.1 c41
      refine J.bipush (v := (-2 : Int32)) dX6_log_53 (by decide) ?_
      exact J.iret rfl dX6_log_55 ⟨_, rfl, _, rfl, hw⟩
    · have hw := hw.2 c41
      refine J.aload_n 0 dX6_log_44 rfl ?_
      refine J.iload_n 1 dX6_log_45 rfl ?_
      refine J.iload_n 2 dX6_log_46 rfl ?_
      refine kX6_427 rfl htr hT dX6_log_47 (by omega) (Nat.le_of_ble_eq_true rfl) hw (fun r47 hw => ?_)
      refine J.goto 55 dX6_log_50 (by decide) ?_
      exact J.iret rfl dX6_log_55 ⟨_, rfl, _, rfl, hw⟩
  · have hw := hw.2 c22
    refine J.iconst (v := (0 : Int32)) dX6_log_25 (by decide) ?_
    exact J.iret rfl dX6_log_26 ⟨_, rfl, _, rfl, hw⟩
def wX6_log (t : Nat) (V : Nat → Nat → Int32) (a1 : Int32) (a2 : Int32) (Q : Int32 → (Nat → Nat → Int32) → Prop) : Prop :=
  wX6_isIn a2 (0 : Int32) (5 : Int32) (fun r4 => ((¬ r4 = 0 → wX6_log_15 t a1 a2 Q V (0 : Int32)) ∧ (r4 = 0 → wX6_log_15 t a1 a2 Q V (1 : Int32))))
theorem mX6_log {G : jG} {l : Launch} (htr : l.stackTraces = false) {sh : List jH} {V : Nat → Nat → Int32} {R : Nat → Nat → Option Nat} {t : Nat} (hT : jReg shX6 sh t) {a1 : Int32} {a2 : Int32} {Q : Int32 → (Nat → Nat → Int32) → Prop} (hw : wX6_log t V a1 a2 Q) : JM G l MX6_log 1 0 0 [.ref t, .int a1, .int a2] (mk sh V R) (jWr sh R Q) jNo := by
  refine JM.intro (by decide) rfl htr (Nat.le_of_ble_eq_true rfl) ?_
  show J G l MX6_log 1 0 0 0 [(0, .ref t), (1, .int a1), (2, .int a2)] [] (mk sh V R) _ _
  unfold wX6_log at hw
  refine J.aload_n 0 dX6_log_0 rfl ?_
  refine J.iload_n 2 dX6_log_1 rfl ?_
  refine J.iconst (v := (0 : Int32)) dX6_log_2 (by decide) ?_
  refine J.iconst (v := (5 : Int32)) dX6_log_3 (by decide) ?_
  refine kX6_57 rfl htr dX6_log_4 (by omega) (Nat.le_of_ble_eq_true rfl) hw (fun r4 hw => ?_)
  refine J.if_ne 14 dX6_log_7 (by decide) ⟨fun c7 => ?_, fun c7 => ?_⟩
  · have hw := hw.1 c7
    refine J.iconst (v := (0 : Int32)) dX6_log_14 (by decide) ?_
    exact (rX6_log_15 htr (Nat.le_refl _) hT hw)
  · have hw := hw.2 c7
    refine J.iconst (v := (1 : Int32)) dX6_log_10 (by decide) ?_
    refine J.goto 15 dX6_log_11 (by decide) ?_
    exact (rX6_log_15 htr (Nat.le_refl _) hT hw)
-- VisitingHoursModel.mark(II)I
abbrev MX6_mark : jM := (yX6_mark, cX6_mark, 3, some .int, [])
def wX6_mark_28 (t : Nat) (a1 : Int32) (a2 : Int32) (Q : Int32 → (Nat → Nat → Int32) → Prop) (V : Nat → Nat → Int32) (s1 : Int32) : Prop :=
  ((((vset V t 0 s1) t 0) ≤ 0 → wX6_sets t (vset V t 0 s1) (((43 : Int32) + ((3 : Int32) * a1)) + (2 : Int32)) a2 (fun r52 V52 => Q r52 V52)) ∧ (¬ ((vset V t 0 s1) t 0) ≤ 0 → Q (0 : Int32) (vset V t 0 s1)))
theorem rX6_mark_28 {G : jG} {l : Launch} {d c n : Nat} (htr : l.stackTraces = false) (hdd : 2 ≤ d) {sh : List jH} {t : Nat} (hT : jReg shX6 sh t) {R : Nat → Nat → Option Nat} {a1 : Int32} {a2 : Int32} {Q : Int32 → (Nat → Nat → Int32) → Prop} {V : Nat → Nat → Int32} {s1 : Int32} (hw : wX6_mark_28 t a1 a2 Q V s1) : J G l MX6_mark d c n 28 [(0, .ref t), (1, .int a1), (2, .int a2)] [.int s1, .ref t] (mk sh V R) (jWr sh R Q) jNo := by
  unfold wX6_mark_28 at hw
  refine pX6_54 rfl hT dX6_mark_28 ?_
  refine J.aload_n 0 dX6_mark_31 rfl ?_
  refine gX6_54 rfl hT dX6_mark_32 ?_
  refine J.if_le 42 dX6_mark_35 (by decide) ⟨fun c35 => ?_, fun c35 => ?_⟩
  · have hw := hw.1 c35
    refine J.aload_n 0 dX6_mark_42 rfl ?_
    refine J.bipush (v := (43 : Int32)) dX6_mark_43 (by decide) ?_
    refine J.iconst (v := (3 : Int32)) dX6_mark_45 (by decide) ?_
    refine J.iload_n 1 dX6_mark_46 rfl ?_
    refine J.imul dX6_mark_47 ?_
    refine J.iadd dX6_mark_48 ?_
    refine J.iconst (v := (2 : Int32)) dX6_mark_49 (by decide) ?_
    refine J.iadd dX6_mark_50 ?_
    refine J.iload_n 2 dX6_mark_51 rfl ?_
    refine kX6_344 rfl htr hT dX6_mark_52 (by omega) (Nat.le_of_ble_eq_true rfl) hw (fun r52 V52 hw => ?_)
    exact J.iret rfl dX6_mark_55 ⟨_, rfl, _, rfl, hw⟩
  · have hw := hw.2 c35
    refine J.iconst (v := (0 : Int32)) dX6_mark_38 (by decide) ?_
    refine J.goto 55 dX6_mark_39 (by decide) ?_
    exact J.iret rfl dX6_mark_55 ⟨_, rfl, _, rfl, hw⟩
def wX6_mark (t : Nat) (V : Nat → Nat → Int32) (a1 : Int32) (a2 : Int32) (Q : Int32 → (Nat → Nat → Int32) → Prop) : Prop :=
  wX6_isGuest t V a1 (fun r3 => ((¬ r3 = 0 → wX6_isIn a2 (0 : Int32) (63 : Int32) (fun r17 => ((¬ r17 = 0 → wX6_mark_28 t a1 a2 Q V (0 : Int32)) ∧ (r17 = 0 → wX6_mark_28 t a1 a2 Q V (2 : Int32))))) ∧ (r3 = 0 → wX6_mark_28 t a1 a2 Q V (1 : Int32))))
theorem mX6_mark {G : jG} {l : Launch} (htr : l.stackTraces = false) {sh : List jH} {V : Nat → Nat → Int32} {R : Nat → Nat → Option Nat} {t : Nat} (hT : jReg shX6 sh t) {a1 : Int32} {a2 : Int32} {Q : Int32 → (Nat → Nat → Int32) → Prop} (hw : wX6_mark t V a1 a2 Q) : JM G l MX6_mark 2 0 0 [.ref t, .int a1, .int a2] (mk sh V R) (jWr sh R Q) jNo := by
  refine JM.intro (by decide) rfl htr (Nat.le_of_ble_eq_true rfl) ?_
  show J G l MX6_mark 2 0 0 0 [(0, .ref t), (1, .int a1), (2, .int a2)] [] (mk sh V R) _ _
  unfold wX6_mark at hw
  refine J.aload_n 0 dX6_mark_0 rfl ?_
  refine J.aload_n 0 dX6_mark_1 rfl ?_
  refine J.iload_n 1 dX6_mark_2 rfl ?_
  refine kX6_322 rfl htr hT dX6_mark_3 (by omega) (Nat.le_of_ble_eq_true rfl) hw (fun r3 hw => ?_)
  refine J.if_ne 13 dX6_mark_6 (by decide) ⟨fun c6 => ?_, fun c6 => ?_⟩
  · have hw := hw.1 c6
    refine J.iload_n 2 dX6_mark_13 rfl ?_
    refine J.iconst (v := (0 : Int32)) dX6_mark_14 (by decide) ?_
    refine J.bipush (v := (63 : Int32)) dX6_mark_15 (by decide) ?_
    refine kX6_57 rfl htr dX6_mark_17 (by omega) (Nat.le_of_ble_eq_true rfl) hw (fun r17 hw => ?_)
    refine J.if_ne 27 dX6_mark_20 (by decide) ⟨fun c20 => ?_, fun c20 => ?_⟩
    · have hw := hw.1 c20
      refine J.iconst (v := (0 : Int32)) dX6_mark_27 (by decide) ?_
      exact (rX6_mark_28 htr (Nat.le_refl _) hT hw)
    · have hw := hw.2 c20
      refine J.iconst (v := (2 : Int32)) dX6_mark_23 (by decide) ?_
      refine J.goto 28 dX6_mark_24 (by decide) ?_
      exact (rX6_mark_28 htr (Nat.le_refl _) hT hw)
  · have hw := hw.2 c6
    refine J.iconst (v := (1 : Int32)) dX6_mark_9 (by decide) ?_
    refine J.goto 28 dX6_mark_10 (by decide) ?_
    exact (rX6_mark_28 htr (Nat.le_refl _) hT hw)
-- VisitingHoursModel.power(II)J
abbrev MX6_power : jM := (yX6_power, cX6_power, 5, some .long, [])
def wX6_power_5 (a1 : Int32) (a2 : Int32) (Q : Int64 → Prop) : Nat → Int64 → Int32 → Prop
  | 0, _, _ => False
  | f + 1, x2, x4 =>
    ((a2 ≤ x4 → Q x2) ∧ (¬ a2 ≤ x4 → (∀ z15 : Int64, z15 = (x2 * a1.toInt64) → (∀ y16 : Int32, y16 = x4 + (1 : Int32) → wX6_power_5 a1 a2 Q f z15 y16))))
theorem rX6_power_5 {G : jG} {l : Launch} {d c n : Nat} (htr : l.stackTraces = false) (hdd : 0 ≤ d) {sh : List jH} {R : Nat → Nat → Option Nat} {V : Nat → Nat → Int32} {a1 : Int32} {a2 : Int32} {Q : Int64 → Prop} : ∀ (f : Nat) (x2 : Int64) (x4 : Int32), wX6_power_5 a1 a2 Q f x2 x4 → J G l MX6_power d c n 5 [(0, .int a1), (1, .int a2), (2, .long x2), (4, .int x4)] [] (mk sh V R) (jRdL (mk sh V R) Q) jNo := by
  intro f
  induction f with
  | zero =>
    intro x2 x4 hw
    rw [wX6_power_5] at hw
    exact hw.elim
  | succ f ih =>
    intro x2 x4 hw
    rw [wX6_power_5] at hw
    refine J.iload 3 dX6_power_5 rfl ?_
    refine J.iload_n 1 dX6_power_7 rfl ?_
    refine J.icmp_ge 22 dX6_power_8 (by decide) ⟨fun c8 => ?_, fun c8 => ?_⟩
    · have hw := hw.1 c8
      refine J.lload_n 2 dX6_power_22 rfl ?_
      exact J.lret rfl dX6_power_23 ⟨rfl, _, rfl, hw⟩
    · have hw := hw.2 c8
      refine J.lload_n 2 dX6_power_11 rfl ?_
      refine J.iload_n 0 dX6_power_12 rfl ?_
      refine J.i2l dX6_power_13 ?_
      refine J.lmul dX6_power_14 ?_
      refine J.nmL hw (fun z15 hw => ?_)
      refine J.lstore_n (lv' := [(2, .long z15), (0, .int a1), (1, .int a2), (4, .int x4)]) dX6_power_15 (by decide) rfl ?_
      refine J.iincN 3 (K := (1 : Int32)) (lv' := fun y16 => [(4, .int y16), (2, .long z15), (0, .int a1), (1, .int a2)]) dX6_power_16 rfl (by decide) (by decide) (fun _ => rfl) hw (fun y16 hw => ?_)
      refine J.goto 5 dX6_power_19 (by decide) ?_
      exact J.pick [2, 3, 1, 0] rfl (ih _ _ hw)
def wX6_power (a1 : Int32) (a2 : Int32) (Q : Int64 → Prop) : Prop :=
  (∃ f9, wX6_power_5 a1 a2 Q f9 (1 : Int64) (0 : Int32))
theorem mX6_power {G : jG} {l : Launch} (htr : l.stackTraces = false) {sh : List jH} {V : Nat → Nat → Int32} {R : Nat → Nat → Option Nat} {a1 : Int32} {a2 : Int32} {Q : Int64 → Prop} (hw : wX6_power a1 a2 Q) : JM G l MX6_power 0 0 0 [.int a1, .int a2] (mk sh V R) (jRdL (mk sh V R) Q) jNo := by
  refine JM.intro (by decide) rfl htr (Nat.le_of_ble_eq_true rfl) ?_
  show J G l MX6_power 0 0 0 0 [(0, .int a1), (1, .int a2)] [] (mk sh V R) _ _
  unfold wX6_power at hw
  refine J.lconst (v := (1 : Int64)) dX6_power_0 (by decide) ?_
  refine J.lstore_n (lv' := [(2, .long (1 : Int64)), (0, .int a1), (1, .int a2)]) dX6_power_1 (by decide) rfl ?_
  refine J.iconst (v := (0 : Int32)) dX6_power_2 (by decide) ?_
  refine J.istore (lv' := [(4, .int (0 : Int32)), (2, .long (1 : Int64)), (0, .int a1), (1, .int a2)]) dX6_power_3 (by decide) rfl ?_
  obtain ⟨f9, hw⟩ := hw
  exact J.pick [2, 3, 1, 0] rfl (rX6_power_5 htr (Nat.le_refl _) f9 _ _ hw)
theorem kX6_409 {G : jG} {l : Launch} {M : jM} {d c n pc : Nat} {lv : List (Nat × Value)} {rest : List Value} {post : Option Value → List jC → Prop} {xp : String → List jC → Prop} (hM : M.1.cls = RX6) (htr : l.stackTraces = false) {sh : List jH} {V : Nat → Nat → Int32} {R : Nat → Nat → Option Nat} {a1 : Int32} {a2 : Int32} {Q : Int64 → Prop} (hd : decode M.2.1 pc = .ok (.invokestatic 409, 3)) (hdd : 0 + 1 ≤ d) (hw8 : (rest.map fun v => v.category).sum ≤ 8) (hw : wX6_power a1 a2 Q) (kk : ∀ r, Q r → J G l M d c n (pc + 3) lv (.long r :: rest) (mk sh V R) post xp) : J G l M d c n pc lv (.int a2 :: .int a1 :: rest) (mk sh V R) post xp :=
  J.callS (As := [.int a1, .int a2]) (hcw := by rw [hM]; exact lw_S q2688 q2689 q152 q2690) (mX6_power htr hw) hd rfl ⟨by decide, by decide, by show _ = some 2; decide +kernel⟩ hw8 ⟨hdd, by decide⟩ jcc0 (fun r9 g9 h9 => by obtain ⟨rfl, r, rfl, h⟩ := h9; exact kk r h) jNo.x
-- VisitingHoursModel.odds(II)I
abbrev MX6_odds : jM := (yX6_odds, cX6_odds, 6, some .int, [])
def wX6_odds_43 (t : Nat) (a1 : Int32) (a2 : Int32) (Q : Int32 → (Nat → Nat → Int32) → Prop) : Nat → (Nat → Nat → Int32) → Int64 → Int32 → Prop
  | 0, _, _, _ => False
  | f + 1, V, x3, x5 =>
    ((((1 : Int32) <<< (a1 &&& 31)) ≤ x5 → wX6_power (100 : Int32) a1 (fun r111 => (¬ r111 = 0 ∧ Q ((((10000 : Int64) * x3) / r111).toInt32) V))) ∧ (¬ ((1 : Int32) <<< (a1 &&& 31)) ≤ x5 → wX6_bits x5 (fun r53 => ((r53 < a2 → (∀ y97 : Int32, y97 = x5 + (1 : Int32) → wX6_odds_43 t a1 a2 Q f V x3 y97)) ∧ (¬ r53 < a2 → wX6_bits x5 (fun r72 => wX6_power ((100 : Int32) - (V (t + 1) 5)) r72 (fun r75 => wX6_bits x5 (fun r87 => wX6_power (V (t + 1) 5) (a1 - r87) (fun r91 => (∀ z96 : Int64, z96 = (x3 + (r75 * r91)) → (∀ y97 : Int32, y97 = x5 + (1 : Int32) → wX6_odds_43 t a1 a2 Q f V z96 y97)))))))))))
theorem rX6_odds_43 {G : jG} {l : Launch} {d c n : Nat} (htr : l.stackTraces = false) (hdd : 1 ≤ d) {sh : List jH} {t : Nat} (hT : jReg shX6 sh t) {R : Nat → Nat → Option Nat} {a1 : Int32} {a2 : Int32} {Q : Int32 → (Nat → Nat → Int32) → Prop} : ∀ (f : Nat) (V : Nat → Nat → Int32) (x3 : Int64) (x5 : Int32), wX6_odds_43 t a1 a2 Q f V x3 x5 → J G l MX6_odds d c n 43 [(0, .ref t), (1, .int a1), (2, .int a2), (3, .long x3), (5, .int x5)] [] (mk sh V R) (jWr sh R Q) jNo := by
  intro f
  induction f with
  | zero =>
    intro V x3 x5 hw
    rw [wX6_odds_43] at hw
    exact hw.elim
  | succ f ih =>
    intro V x3 x5 hw
    rw [wX6_odds_43] at hw
    refine J.iload 4 dX6_odds_43 rfl ?_
    refine J.iconst (v := (1 : Int32)) dX6_odds_45 (by decide) ?_
    refine J.iload_n 1 dX6_odds_46 rfl ?_
    refine J.ishl dX6_odds_47 ?_
    refine J.icmp_ge 103 dX6_odds_48 (by decide) ⟨fun c48 => ?_, fun c48 => ?_⟩
    · have hw := hw.1 c48
      refine J.ldc2 (v := (10000 : Int64)) dX6_odds_103 q2691 ?_
      refine J.lload_n 3 dX6_odds_106 rfl ?_
      refine J.lmul dX6_odds_107 ?_
      refine J.bipush (v := (100 : Int32)) dX6_odds_108 (by decide) ?_
      refine J.iload_n 1 dX6_odds_110 rfl ?_
      refine kX6_409 rfl htr dX6_odds_111 (by omega) (Nat.le_of_ble_eq_true rfl) hw (fun r111 hw => ?_)
      obtain ⟨h114, hw⟩ := hw
      refine J.ldiv dX6_odds_114 h114 ?_
      refine J.l2i dX6_odds_115 ?_
      exact J.iret rfl dX6_odds_116 ⟨_, rfl, _, rfl, hw⟩
    · have hw := hw.2 c48
      refine J.iload 4 dX6_odds_51 rfl ?_
      refine kX6_303 rfl htr dX6_odds_53 (by omega) (Nat.le_of_ble_eq_true rfl) hw (fun r53 hw => ?_)
      refine J.iload_n 2 dX6_odds_56 rfl ?_
      refine J.icmp_lt 97 dX6_odds_57 (by decide) ⟨fun c57 => ?_, fun c57 => ?_⟩
      · have hw := hw.1 c57
        refine J.iincN 4 (K := (1 : Int32)) (lv' := fun y97 => [(5, .int y97), (0, .ref t), (1, .int a1), (2, .int a2), (3, .long x3)]) dX6_odds_97 rfl (by decide) (by decide) (fun _ => rfl) hw (fun y97 hw => ?_)
        refine J.goto 43 dX6_odds_100 (by decide) ?_
        exact J.pick [1, 2, 3, 4, 0] rfl (ih _ _ _ hw)
      · have hw := hw.2 c57
        refine J.lload_n 3 dX6_odds_60 rfl ?_
        refine J.bipush (v := (100 : Int32)) dX6_odds_61 (by decide) ?_
        refine J.aload_n 0 dX6_odds_63 rfl ?_
        refine gX6_7 rfl hT dX6_odds_64 ?_
        refine J.iconst (v := (5 : Int32)) dX6_odds_67 (by decide) ?_
        refine JV.ialdK 5 dX6_odds_68 (hT.ge 1) (hT.at 1 rfl) rfl (by decide) (by decide) ?_
        refine J.isub dX6_odds_69 ?_
        refine J.iload 4 dX6_odds_70 rfl ?_
        refine kX6_303 rfl htr dX6_odds_72 (by omega) (Nat.le_of_ble_eq_true rfl) hw (fun r72 hw => ?_)
        refine kX6_409 rfl htr dX6_odds_75 (by omega) (Nat.le_of_ble_eq_true rfl) hw (fun r75 hw => ?_)
        refine J.aload_n 0 dX6_odds_78 rfl ?_
        refine gX6_7 rfl hT dX6_odds_79 ?_
        refine J.iconst (v := (5 : Int32)) dX6_odds_82 (by decide) ?_
        refine JV.ialdK 5 dX6_odds_83 (hT.ge 1) (hT.at 1 rfl) rfl (by decide) (by decide) ?_
        refine J.iload_n 1 dX6_odds_84 rfl ?_
        refine J.iload 4 dX6_odds_85 rfl ?_
        refine kX6_303 rfl htr dX6_odds_87 (by omega) (Nat.le_of_ble_eq_true rfl) hw (fun r87 hw => ?_)
        refine J.isub dX6_odds_90 ?_
        refine kX6_409 rfl htr dX6_odds_91 (by omega) (Nat.le_of_ble_eq_true rfl) hw (fun r91 hw => ?_)
        refine J.lmul dX6_odds_94 ?_
        refine J.ladd dX6_odds_95 ?_
        refine J.nmL hw (fun z96 hw => ?_)
        refine J.lstore_n (lv' := [(3, .long z96), (0, .ref t), (1, .int a1), (2, .int a2), (5, .int x5)]) dX6_odds_96 (by decide) rfl ?_
        refine J.iincN 4 (K := (1 : Int32)) (lv' := fun y97 => [(5, .int y97), (3, .long z96), (0, .ref t), (1, .int a1), (2, .int a2)]) dX6_odds_97 rfl (by decide) (by decide) (fun _ => rfl) hw (fun y97 hw => ?_)
        refine J.goto 43 dX6_odds_100 (by decide) ?_
        exact J.pick [2, 3, 4, 1, 0] rfl (ih _ _ _ hw)
def wX6_odds_26 (t : Nat) (a1 : Int32) (a2 : Int32) (Q : Int32 → (Nat → Nat → Int32) → Prop) (V : Nat → Nat → Int32) (s1 : Int32) : Prop :=
  ((((vset V t 0 s1) t 0) ≤ 0 → (∃ f9, wX6_odds_43 t a1 a2 Q f9 (vset V t 0 s1) (0 : Int64) (0 : Int32))) ∧ (¬ ((vset V t 0 s1) t 0) ≤ 0 → Q (0 : Int32) (vset V t 0 s1)))
theorem rX6_odds_26 {G : jG} {l : Launch} {d c n : Nat} (htr : l.stackTraces = false) (hdd : 1 ≤ d) {sh : List jH} {t : Nat} (hT : jReg shX6 sh t) {R : Nat → Nat → Option Nat} {a1 : Int32} {a2 : Int32} {Q : Int32 → (Nat → Nat → Int32) → Prop} {V : Nat → Nat → Int32} {s1 : Int32} (hw : wX6_odds_26 t a1 a2 Q V s1) : J G l MX6_odds d c n 26 [(0, .ref t), (1, .int a1), (2, .int a2)] [.int s1, .ref t] (mk sh V R) (jWr sh R Q) jNo := by
  unfold wX6_odds_26 at hw
  refine pX6_54 rfl hT dX6_odds_26 ?_
  refine J.aload_n 0 dX6_odds_29 rfl ?_
  refine gX6_54 rfl hT dX6_odds_30 ?_
  refine J.if_le 38 dX6_odds_33 (by decide) ⟨fun c33 => ?_, fun c33 => ?_⟩
  · have hw := hw.1 c33
    refine J.lconst (v := (0 : Int64)) dX6_odds_38 (by decide) ?_
    refine J.lstore_n (lv' := [(3, .long (0 : Int64)), (0, .ref t), (1, .int a1), (2, .int a2)]) dX6_odds_39 (by decide) rfl ?_
    refine J.iconst (v := (0 : Int32)) dX6_odds_40 (by decide) ?_
    refine J.istore (lv' := [(5, .int (0 : Int32)), (3, .long (0 : Int64)), (0, .ref t), (1, .int a1), (2, .int a2)]) dX6_odds_41 (by decide) rfl ?_
    obtain ⟨f9, hw⟩ := hw
    exact J.pick [2, 3, 4, 1, 0] rfl (rX6_odds_43 htr hdd hT f9 _ _ _ hw)
  · have hw := hw.2 c33
    refine J.iconst (v := (0 : Int32)) dX6_odds_36 (by decide) ?_
    exact J.iret rfl dX6_odds_37 ⟨_, rfl, _, rfl, hw⟩
def wX6_odds_21 (t : Nat) (a1 : Int32) (a2 : Int32) (Q : Int32 → (Nat → Nat → Int32) → Prop) (V : Nat → Nat → Int32) : Prop :=
  wX6_odds_26 t a1 a2 Q V (1 : Int32)
theorem rX6_odds_21 {G : jG} {l : Launch} {d c n : Nat} (htr : l.stackTraces = false) (hdd : 1 ≤ d) {sh : List jH} {t : Nat} (hT : jReg shX6 sh t) {R : Nat → Nat → Option Nat} {a1 : Int32} {a2 : Int32} {Q : Int32 → (Nat → Nat → Int32) → Prop} {V : Nat → Nat → Int32} (hw : wX6_odds_21 t a1 a2 Q V) : J G l MX6_odds d c n 21 [(0, .ref t), (1, .int a1), (2, .int a2)] [.ref t] (mk sh V R) (jWr sh R Q) jNo := by
  unfold wX6_odds_21 at hw
  refine J.iconst (v := (1 : Int32)) dX6_odds_21 (by decide) ?_
  refine J.goto 26 dX6_odds_22 (by decide) ?_
  exact (rX6_odds_26 htr hdd hT hw)
def wX6_odds (t : Nat) (V : Nat → Nat → Int32) (a1 : Int32) (a2 : Int32) (Q : Int32 → (Nat → Nat → Int32) → Prop) : Prop :=
  wX6_isIn a1 (0 : Int32) (7 : Int32) (fun r5 => ((r5 = 0 → wX6_odds_21 t a1 a2 Q V) ∧ (¬ r5 = 0 → wX6_isIn a2 (0 : Int32) (8 : Int32) (fun r15 => ((¬ r15 = 0 → wX6_odds_26 t a1 a2 Q V (0 : Int32)) ∧ (r15 = 0 → wX6_odds_21 t a1 a2 Q V))))))
theorem mX6_odds {G : jG} {l : Launch} (htr : l.stackTraces = false) {sh : List jH} {V : Nat → Nat → Int32} {R : Nat → Nat → Option Nat} {t : Nat} (hT : jReg shX6 sh t) {a1 : Int32} {a2 : Int32} {Q : Int32 → (Nat → Nat → Int32) → Prop} (hw : wX6_odds t V a1 a2 Q) : JM G l MX6_odds 1 0 0 [.ref t, .int a1, .int a2] (mk sh V R) (jWr sh R Q) jNo := by
  refine JM.intro (by decide) rfl htr (Nat.le_of_ble_eq_true rfl) ?_
  show J G l MX6_odds 1 0 0 0 [(0, .ref t), (1, .int a1), (2, .int a2)] [] (mk sh V R) _ _
  unfold wX6_odds at hw
  refine J.aload_n 0 dX6_odds_0 rfl ?_
  refine J.iload_n 1 dX6_odds_1 rfl ?_
  refine J.iconst (v := (0 : Int32)) dX6_odds_2 (by decide) ?_
  refine J.bipush (v := (7 : Int32)) dX6_odds_3 (by decide) ?_
  refine kX6_57 rfl htr dX6_odds_5 (by omega) (Nat.le_of_ble_eq_true rfl) hw (fun r5 hw => ?_)
  refine J.if_eq 21 dX6_odds_8 (by decide) ⟨fun c8 => ?_, fun c8 => ?_⟩
  · have hw := hw.1 c8
    exact (rX6_odds_21 htr (Nat.le_refl _) hT hw)
  · have hw := hw.2 c8
    refine J.iload_n 2 dX6_odds_11 rfl ?_
    refine J.iconst (v := (0 : Int32)) dX6_odds_12 (by decide) ?_
    refine J.bipush (v := (8 : Int32)) dX6_odds_13 (by decide) ?_
    refine kX6_57 rfl htr dX6_odds_15 (by omega) (Nat.le_of_ble_eq_true rfl) hw (fun r15 hw => ?_)
    refine J.if_ne 25 dX6_odds_18 (by decide) ⟨fun c18 => ?_, fun c18 => ?_⟩
    · have hw := hw.1 c18
      refine J.iconst (v := (0 : Int32)) dX6_odds_25 (by decide) ?_
      exact (rX6_odds_26 htr (Nat.le_refl _) hT hw)
    · have hw := hw.2 c18
      exact (rX6_odds_21 htr (Nat.le_refl _) hT hw)
-- VisitingHoursModel.putsAside()V
abbrev MX6_putsAside : jM := (yX6_putsAside, cX6_putsAside, 2, none, [])
def wX6_putsAside_2 (t : Nat) (Q : (Nat → Nat → Int32) → Prop) : Nat → (Nat → Nat → Int32) → Int32 → Prop
  | 0, _, _ => False
  | f + 1, V, x1 =>
    (((619 : Int32) ≤ x1 → Q V) ∧ (¬ (619 : Int32) ≤ x1 → (vp_in x1 1019 ∧ (∀ y20 : Int32, y20 = (V (t + 1) x1.toNatClampNeg) → (vp_in x1 619 ∧ (∀ y21 : Int32, y21 = x1 + (1 : Int32) → wX6_putsAside_2 t Q f (vset V (t + 3) x1.toNatClampNeg y20) y21))))))
theorem rX6_putsAside_2 {G : jG} {l : Launch} {d c n : Nat} (htr : l.stackTraces = false) (hdd : 0 ≤ d) {sh : List jH} {t : Nat} (hT : jReg shX6 sh t) {R : Nat → Nat → Option Nat} {Q : (Nat → Nat → Int32) → Prop} : ∀ (f : Nat) (V : Nat → Nat → Int32) (x1 : Int32), wX6_putsAside_2 t Q f V x1 → J G l MX6_putsAside d c n 2 [(0, .ref t), (1, .int x1)] [] (mk sh V R) (jWv sh R Q) jNo := by
  intro f
  induction f with
  | zero =>
    intro V x1 hw
    rw [wX6_putsAside_2] at hw
    exact hw.elim
  | succ f ih =>
    intro V x1 hw
    rw [wX6_putsAside_2] at hw
    refine J.iload_n 1 dX6_putsAside_2 rfl ?_
    refine J.sipush (v := (619 : Int32)) dX6_putsAside_3 (by decide) ?_
    refine J.icmp_ge 27 dX6_putsAside_6 (by decide) ⟨fun c6 => ?_, fun c6 => ?_⟩
    · have hw := hw.1 c6
      exact J.vret rfl dX6_putsAside_27 ⟨_, rfl, rfl, hw⟩
    · have hw := hw.2 c6
      refine J.aload_n 0 dX6_putsAside_9 rfl ?_
      refine gX6_16 rfl hT dX6_putsAside_10 ?_
      refine J.iload_n 1 dX6_putsAside_13 rfl ?_
      refine J.aload_n 0 dX6_putsAside_14 rfl ?_
      refine gX6_7 rfl hT dX6_putsAside_15 ?_
      refine J.iload_n 1 dX6_putsAside_18 rfl ?_
      obtain ⟨h19, hw⟩ := hw
      refine JV.iald dX6_putsAside_19 (hT.ge 1) (hT.at 1 rfl) h19 ?_
      refine J.nm hw (fun y20 hw => ?_)
      obtain ⟨h20, hw⟩ := hw
      refine JV.iast dX6_putsAside_20 (hT.ge 3) (hT.at 3 rfl) h20 ?_
      refine J.iincN 1 (K := (1 : Int32)) (lv' := fun y21 => [(1, .int y21), (0, .ref t)]) dX6_putsAside_21 rfl (by decide) (by decide) (fun _ => rfl) hw (fun y21 hw => ?_)
      refine J.goto 2 dX6_putsAside_24 (by decide) ?_
      exact J.pick [1, 0] rfl (ih _ _ hw)
def wX6_putsAside (t : Nat) (V : Nat → Nat → Int32) (Q : (Nat → Nat → Int32) → Prop) : Prop :=
  (∃ f9, wX6_putsAside_2 t Q f9 V (0 : Int32))
theorem mX6_putsAside {G : jG} {l : Launch} (htr : l.stackTraces = false) {sh : List jH} {V : Nat → Nat → Int32} {R : Nat → Nat → Option Nat} {t : Nat} (hT : jReg shX6 sh t) {Q : (Nat → Nat → Int32) → Prop} (hw : wX6_putsAside t V Q) : JM G l MX6_putsAside 0 0 0 [.ref t] (mk sh V R) (jWv sh R Q) jNo := by
  refine JM.intro (by decide) rfl htr (Nat.le_of_ble_eq_true rfl) ?_
  show J G l MX6_putsAside 0 0 0 0 [(0, .ref t)] [] (mk sh V R) _ _
  unfold wX6_putsAside at hw
  refine J.iconst (v := (0 : Int32)) dX6_putsAside_0 (by decide) ?_
  refine J.istore_n (lv' := [(1, .int (0 : Int32)), (0, .ref t)]) dX6_putsAside_1 (by decide) rfl ?_
  obtain ⟨f9, hw⟩ := hw
  exact J.pick [1, 0] rfl (rX6_putsAside_2 htr (Nat.le_refl _) hT f9 _ _ hw)
-- VisitingHoursModel.rank(IIZ)I
abbrev MX6_rank : jM := (yX6_rank, cX6_rank, 4, some .int, [])
def wX6_rank_22 (t : Nat) (a1 : Int32) (a2 : Int32) (a3 : Int32) (Q : Int32 → (Nat → Nat → Int32) → Prop) (V : Nat → Nat → Int32) (s1 : Int32) : Prop :=
  ((((vset V t 0 s1) t 0) ≤ 0 → ((a3 = 0 → wX6_lovedOf t (vset V t 0 s1) a1 a2 (fun r52 => Q r52 (vset V t 0 s1))) ∧ (¬ a3 = 0 → wX6_rankOf t (vset V t 0 s1) a1 a2 (fun r43 => Q r43 (vset V t 0 s1))))) ∧ (¬ ((vset V t 0 s1) t 0) ≤ 0 → Q (0 : Int32) (vset V t 0 s1)))
theorem rX6_rank_22 {G : jG} {l : Launch} {d c n : Nat} (htr : l.stackTraces = false) (hdd : 2 ≤ d) {sh : List jH} {t : Nat} (hT : jReg shX6 sh t) {R : Nat → Nat → Option Nat} {a1 : Int32} {a2 : Int32} {a3 : Int32} {Q : Int32 → (Nat → Nat → Int32) → Prop} {V : Nat → Nat → Int32} {s1 : Int32} (hw : wX6_rank_22 t a1 a2 a3 Q V s1) : J G l MX6_rank d c n 22 [(0, .ref t), (1, .int a1), (2, .int a2), (3, .int a3)] [.int s1, .ref t] (mk sh V R) (jWr sh R Q) jNo := by
  unfold wX6_rank_22 at hw
  refine pX6_54 rfl hT dX6_rank_22 ?_
  refine J.aload_n 0 dX6_rank_25 rfl ?_
  refine gX6_54 rfl hT dX6_rank_26 ?_
  refine J.if_le 36 dX6_rank_29 (by decide) ⟨fun c29 => ?_, fun c29 => ?_⟩
  · have hw := hw.1 c29
    refine J.iload_n 3 dX6_rank_36 rfl ?_
    refine J.if_eq 49 dX6_rank_37 (by decide) ⟨fun c37 => ?_, fun c37 => ?_⟩
    · have hw := hw.1 c37
      refine J.aload_n 0 dX6_rank_49 rfl ?_
      refine J.iload_n 1 dX6_rank_50 rfl ?_
      refine J.iload_n 2 dX6_rank_51 rfl ?_
      refine kX6_65 rfl htr hT dX6_rank_52 (by omega) (Nat.le_of_ble_eq_true rfl) hw (fun r52 hw => ?_)
      exact J.iret rfl dX6_rank_55 ⟨_, rfl, _, rfl, hw⟩
    · have hw := hw.2 c37
      refine J.aload_n 0 dX6_rank_40 rfl ?_
      refine J.iload_n 1 dX6_rank_41 rfl ?_
      refine J.iload_n 2 dX6_rank_42 rfl ?_
      refine kX6_61 rfl htr hT dX6_rank_43 (by omega) (Nat.le_of_ble_eq_true rfl) hw (fun r43 hw => ?_)
      refine J.goto 55 dX6_rank_46 (by decide) ?_
      exact J.iret rfl dX6_rank_55 ⟨_, rfl, _, rfl, hw⟩
  · have hw := hw.2 c29
    refine J.iconst (v := (0 : Int32)) dX6_rank_32 (by decide) ?_
    refine J.goto 55 dX6_rank_33 (by decide) ?_
    exact J.iret rfl dX6_rank_55 ⟨_, rfl, _, rfl, hw⟩
def wX6_rank_17 (t : Nat) (a1 : Int32) (a2 : Int32) (a3 : Int32) (Q : Int32 → (Nat → Nat → Int32) → Prop) (V : Nat → Nat → Int32) : Prop :=
  wX6_rank_22 t a1 a2 a3 Q V (1 : Int32)
theorem rX6_rank_17 {G : jG} {l : Launch} {d c n : Nat} (htr : l.stackTraces = false) (hdd : 2 ≤ d) {sh : List jH} {t : Nat} (hT : jReg shX6 sh t) {R : Nat → Nat → Option Nat} {a1 : Int32} {a2 : Int32} {a3 : Int32} {Q : Int32 → (Nat → Nat → Int32) → Prop} {V : Nat → Nat → Int32} (hw : wX6_rank_17 t a1 a2 a3 Q V) : J G l MX6_rank d c n 17 [(0, .ref t), (1, .int a1), (2, .int a2), (3, .int a3)] [.ref t] (mk sh V R) (jWr sh R Q) jNo := by
  unfold wX6_rank_17 at hw
  refine J.iconst (v := (1 : Int32)) dX6_rank_17 (by decide) ?_
  refine J.goto 22 dX6_rank_18 (by decide) ?_
  exact (rX6_rank_22 htr hdd hT hw)
def wX6_rank (t : Nat) (V : Nat → Nat → Int32) (a1 : Int32) (a2 : Int32) (a3 : Int32) (Q : Int32 → (Nat → Nat → Int32) → Prop) : Prop :=
  wX6_isHost t V a1 (fun r3 => ((r3 = 0 → wX6_rank_17 t a1 a2 a3 Q V) ∧ (¬ r3 = 0 → wX6_isGuest t V a2 (fun r11 => ((¬ r11 = 0 → wX6_rank_22 t a1 a2 a3 Q V (0 : Int32)) ∧ (r11 = 0 → wX6_rank_17 t a1 a2 a3 Q V))))))
theorem mX6_rank {G : jG} {l : Launch} (htr : l.stackTraces = false) {sh : List jH} {V : Nat → Nat → Int32} {R : Nat → Nat → Option Nat} {t : Nat} (hT : jReg shX6 sh t) {a1 : Int32} {a2 : Int32} {a3 : Int32} {Q : Int32 → (Nat → Nat → Int32) → Prop} (hw : wX6_rank t V a1 a2 a3 Q) : JM G l MX6_rank 2 0 0 [.ref t, .int a1, .int a2, .int a3] (mk sh V R) (jWr sh R Q) jNo := by
  refine JM.intro (by decide) rfl htr (Nat.le_of_ble_eq_true rfl) ?_
  show J G l MX6_rank 2 0 0 0 [(0, .ref t), (1, .int a1), (2, .int a2), (3, .int a3)] [] (mk sh V R) _ _
  unfold wX6_rank at hw
  refine J.aload_n 0 dX6_rank_0 rfl ?_
  refine J.aload_n 0 dX6_rank_1 rfl ?_
  refine J.iload_n 1 dX6_rank_2 rfl ?_
  refine kX6_310 rfl htr hT dX6_rank_3 (by omega) (Nat.le_of_ble_eq_true rfl) hw (fun r3 hw => ?_)
  refine J.if_eq 17 dX6_rank_6 (by decide) ⟨fun c6 => ?_, fun c6 => ?_⟩
  · have hw := hw.1 c6
    exact (rX6_rank_17 htr (Nat.le_refl _) hT hw)
  · have hw := hw.2 c6
    refine J.aload_n 0 dX6_rank_9 rfl ?_
    refine J.iload_n 2 dX6_rank_10 rfl ?_
    refine kX6_322 rfl htr hT dX6_rank_11 (by omega) (Nat.le_of_ble_eq_true rfl) hw (fun r11 hw => ?_)
    refine J.if_ne 21 dX6_rank_14 (by decide) ⟨fun c14 => ?_, fun c14 => ?_⟩
    · have hw := hw.1 c14
      refine J.iconst (v := (0 : Int32)) dX6_rank_21 (by decide) ?_
      exact (rX6_rank_22 htr (Nat.le_refl _) hT hw)
    · have hw := hw.2 c14
      exact (rX6_rank_17 htr (Nat.le_refl _) hT hw)
-- VisitingHoursModel.rather()I
abbrev MX6_rather : jM := (yX6_rather, cX6_rather, 4, some .int, [])
def wX6_rather_153 (t : Nat) (Q : Int32 → (Nat → Nat → Int32) → Prop) (K121 : (Nat → Nat → Int32) → Int32 → Int32 → Prop) (V : Nat → Nat → Int32) (x1 : Int32) (x3 : Int32) (s1 : Int32) (s2 : Int32) : Prop :=
  (vp_in s1 8 ∧ (vp_in x3 8 ∧ ((¬ ((vset V (t + 7) s1.toNatClampNeg s2) (t + 7) x3.toNatClampNeg) = (-1 : Int32) → (vp_in x3 400 ∧ (vp_in ((vset V (t + 7) s1.toNatClampNeg s2) (t + 5) x3.toNatClampNeg) 8 ∧ ((¬ ((vset V (t + 7) s1.toNatClampNeg s2) (t + 8) ((vset V (t + 7) s1.toNatClampNeg s2) (t + 5) x3.toNatClampNeg).toNatClampNeg) = (-1 : Int32) → Q (-1 : Int32) (vset V (t + 7) s1.toNatClampNeg s2)) ∧ (((vset V (t + 7) s1.toNatClampNeg s2) (t + 8) ((vset V (t + 7) s1.toNatClampNeg s2) (t + 5) x3.toNatClampNeg).toNatClampNeg) = (-1 : Int32) → (vp_in x3 400 ∧ wX6_mayMeet t (vset V (t + 7) s1.toNatClampNeg s2) x3 ((vset V (t + 7) s1.toNatClampNeg s2) (t + 5) x3.toNatClampNeg) (fun r190 => ((¬ r190 = 0 → (vp_in x3 400 ∧ (vp_in ((vset V (t + 7) s1.toNatClampNeg s2) (t + 5) x3.toNatClampNeg) 8 ∧ (∀ y210 : Int32, y210 = x3 + (1 : Int32) → K121 (vset (vset V (t + 7) s1.toNatClampNeg s2) (t + 8) ((vset V (t + 7) s1.toNatClampNeg s2) (t + 5) x3.toNatClampNeg).toNatClampNeg x3) x1 y210)))) ∧ (r190 = 0 → Q (-1 : Int32) (vset V (t + 7) s1.toNatClampNeg s2)))))))))) ∧ (((vset V (t + 7) s1.toNatClampNeg s2) (t + 7) x3.toNatClampNeg) = (-1 : Int32) → (∀ y210 : Int32, y210 = x3 + (1 : Int32) → K121 (vset V (t + 7) s1.toNatClampNeg s2) x1 y210)))))
theorem rX6_rather_153 {G : jG} {l : Launch} {d c n : Nat} (htr : l.stackTraces = false) (hdd : 3 ≤ d) {sh : List jH} {t : Nat} (hT : jReg shX6 sh t) {R : Nat → Nat → Option Nat} {Q : Int32 → (Nat → Nat → Int32) → Prop} {K121 : (Nat → Nat → Int32) → Int32 → Int32 → Prop} (hK121 : ∀ (V : Nat → Nat → Int32) (x1 : Int32) (x3 : Int32), K121 V x1 x3 → J G l MX6_rather d c n 121 [(0, .ref t), (1, .int x1), (3, .int x3)] [] (mk sh V R) (jWr sh R Q) jNo) {V : Nat → Nat → Int32} {x1 : Int32} {x3 : Int32} {s1 : Int32} {s2 : Int32} (hw : wX6_rather_153 t Q K121 V x1 x3 s1 s2) : J G l MX6_rather d c n 153 [(0, .ref t), (1, .int x1), (3, .int x3)] [.int s2, .int s1, .ref (t + 7)] (mk sh V R) (jWr sh R Q) jNo := by
  unfold wX6_rather_153 at hw
  obtain ⟨h153, hw⟩ := hw
  refine JV.iast dX6_rather_153 (hT.ge 7) (hT.at 7 rfl) h153 ?_
  refine J.aload_n 0 dX6_rather_154 rfl ?_
  refine gX6_32 rfl hT dX6_rather_155 ?_
  refine J.iload_n 2 dX6_rather_158 rfl ?_
  obtain ⟨h159, hw⟩ := hw
  refine JV.iald dX6_rather_159 (hT.ge 7) (hT.at 7 rfl) h159 ?_
  refine J.iconst (v := (-1 : Int32)) dX6_rather_160 (by decide) ?_
  refine J.icmp_ne 167 dX6_rather_161 (by decide) ⟨fun c161 => ?_, fun c161 => ?_⟩
  · have hw := hw.1 c161
    refine J.aload_n 0 dX6_rather_167 rfl ?_
    refine gX6_35 rfl hT dX6_rather_168 ?_
    refine J.aload_n 0 dX6_rather_171 rfl ?_
    refine gX6_22 rfl hT dX6_rather_172 ?_
    refine J.iload_n 2 dX6_rather_175 rfl ?_
    obtain ⟨h176, hw⟩ := hw
    refine JV.iald dX6_rather_176 (hT.ge 5) (hT.at 5 rfl) h176 ?_
    obtain ⟨h177, hw⟩ := hw
    refine JV.iald dX6_rather_177 (hT.ge 8) (hT.at 8 rfl) h177 ?_
    refine J.iconst (v := (-1 : Int32)) dX6_rather_178 (by decide) ?_
    refine J.icmp_ne 196 dX6_rather_179 (by decide) ⟨fun c179 => ?_, fun c179 => ?_⟩
    · have hw := hw.1 c179
      refine J.iconst (v := (-1 : Int32)) dX6_rather_196 (by decide) ?_
      exact J.iret rfl dX6_rather_197 ⟨_, rfl, _, rfl, hw⟩
    · have hw := hw.2 c179
      refine J.aload_n 0 dX6_rather_182 rfl ?_
      refine J.iload_n 2 dX6_rather_183 rfl ?_
      refine J.aload_n 0 dX6_rather_184 rfl ?_
      refine gX6_22 rfl hT dX6_rather_185 ?_
      refine J.iload_n 2 dX6_rather_188 rfl ?_
      obtain ⟨h189, hw⟩ := hw
      refine JV.iald dX6_rather_189 (hT.ge 5) (hT.at 5 rfl) h189 ?_
      refine kX6_78 rfl htr hT dX6_rather_190 (by omega) (Nat.le_of_ble_eq_true rfl) hw (fun r190 hw => ?_)
      refine J.if_ne 198 dX6_rather_193 (by decide) ⟨fun c193 => ?_, fun c193 => ?_⟩
      · have hw := hw.1 c193
        refine J.aload_n 0 dX6_rather_198 rfl ?_
        refine gX6_35 rfl hT dX6_rather_199 ?_
        refine J.aload_n 0 dX6_rather_202 rfl ?_
        refine gX6_22 rfl hT dX6_rather_203 ?_
        refine J.iload_n 2 dX6_rather_206 rfl ?_
        obtain ⟨h207, hw⟩ := hw
        refine JV.iald dX6_rather_207 (hT.ge 5) (hT.at 5 rfl) h207 ?_
        refine J.iload_n 2 dX6_rather_208 rfl ?_
        obtain ⟨h209, hw⟩ := hw
        refine JV.iast dX6_rather_209 (hT.ge 8) (hT.at 8 rfl) h209 ?_
        refine J.iincN 2 (K := (1 : Int32)) (lv' := fun y210 => [(3, .int y210), (0, .ref t), (1, .int x1)]) dX6_rather_210 rfl (by decide) (by decide) (fun _ => rfl) hw (fun y210 hw => ?_)
        refine J.goto 121 dX6_rather_213 (by decide) ?_
        exact J.pick [1, 2, 0] rfl (hK121 _ _ _ hw)
      · have hw := hw.2 c193
        refine J.iconst (v := (-1 : Int32)) dX6_rather_196 (by decide) ?_
        exact J.iret rfl dX6_rather_197 ⟨_, rfl, _, rfl, hw⟩
  · have hw := hw.2 c161
    refine J.goto 210 dX6_rather_164 (by decide) ?_
    refine J.iincN 2 (K := (1 : Int32)) (lv' := fun y210 => [(3, .int y210), (0, .ref t), (1, .int x1)]) dX6_rather_210 rfl (by decide) (by decide) (fun _ => rfl) hw (fun y210 hw => ?_)
    refine J.goto 121 dX6_rather_213 (by decide) ?_
    exact J.pick [1, 2, 0] rfl (hK121 _ _ _ hw)
def wX6_rather_121 (t : Nat) (Q : Int32 → (Nat → Nat → Int32) → Prop) : Nat → (Nat → Nat → Int32) → Int32 → Int32 → Prop
  | 0, _, _, _ => False
  | f + 1, V, x1, x3 =>
    ((x1 ≤ x3 → wX6_rathers t V (fun r217 => Q r217 V)) ∧ (¬ x1 ≤ x3 → (vp_in x3 400 ∧ ((¬ (V (t + 5) x3.toNatClampNeg) = (255 : Int32) → (vp_in x3 400 ∧ wX6_rather_153 t Q (fun V x1 x3 => wX6_rather_121 t Q f V x1 x3) V x1 x3 x3 (V (t + 5) x3.toNatClampNeg))) ∧ ((V (t + 5) x3.toNatClampNeg) = (255 : Int32) → wX6_rather_153 t Q (fun V x1 x3 => wX6_rather_121 t Q f V x1 x3) V x1 x3 x3 (-1 : Int32))))))
theorem rX6_rather_121 {G : jG} {l : Launch} {d c n : Nat} (htr : l.stackTraces = false) (hdd : 3 ≤ d) {sh : List jH} {t : Nat} (hT : jReg shX6 sh t) {R : Nat → Nat → Option Nat} {Q : Int32 → (Nat → Nat → Int32) → Prop} : ∀ (f : Nat) (V : Nat → Nat → Int32) (x1 : Int32) (x3 : Int32), wX6_rather_121 t Q f V x1 x3 → J G l MX6_rather d c n 121 [(0, .ref t), (1, .int x1), (3, .int x3)] [] (mk sh V R) (jWr sh R Q) jNo := by
  intro f
  induction f with
  | zero =>
    intro V x1 x3 hw
    rw [wX6_rather_121] at hw
    exact hw.elim
  | succ f ih =>
    intro V x1 x3 hw
    rw [wX6_rather_121] at hw
    refine J.iload_n 2 dX6_rather_121 rfl ?_
    refine J.iload_n 1 dX6_rather_122 rfl ?_
    refine J.icmp_ge 216 dX6_rather_123 (by decide) ⟨fun c123 => ?_, fun c123 => ?_⟩
    · have hw := hw.1 c123
      refine J.aload_n 0 dX6_rather_216 rfl ?_
      refine kX6_375 rfl htr hT dX6_rather_217 (by omega) (Nat.le_of_ble_eq_true rfl) hw (fun r217 hw => ?_)
      exact J.iret rfl dX6_rather_220 ⟨_, rfl, _, rfl, hw⟩
    · have hw := hw.2 c123
      refine J.aload_n 0 dX6_rather_126 rfl ?_
      refine gX6_32 rfl hT dX6_rather_127 ?_
      refine J.iload_n 2 dX6_rather_130 rfl ?_
      refine J.aload_n 0 dX6_rather_131 rfl ?_
      refine gX6_22 rfl hT dX6_rather_132 ?_
      refine J.iload_n 2 dX6_rather_135 rfl ?_
      obtain ⟨h136, hw⟩ := hw
      refine JV.iald dX6_rather_136 (hT.ge 5) (hT.at 5 rfl) h136 ?_
      refine J.sipush (v := (255 : Int32)) dX6_rather_137 (by decide) ?_
      refine J.icmp_ne 147 dX6_rather_140 (by decide) ⟨fun c140 => ?_, fun c140 => ?_⟩
      · have hw := hw.1 c140
        refine J.aload_n 0 dX6_rather_147 rfl ?_
        refine gX6_22 rfl hT dX6_rather_148 ?_
        refine J.iload_n 2 dX6_rather_151 rfl ?_
        obtain ⟨h152, hw⟩ := hw
        refine JV.iald dX6_rather_152 (hT.ge 5) (hT.at 5 rfl) h152 ?_
        exact (rX6_rather_153 htr hdd hT ih hw)
      · have hw := hw.2 c140
        refine J.iconst (v := (-1 : Int32)) dX6_rather_143 (by decide) ?_
        refine J.goto 153 dX6_rather_144 (by decide) ?_
        exact (rX6_rather_153 htr hdd hT ih hw)
def wX6_rather_100 (t : Nat) (Q : Int32 → (Nat → Nat → Int32) → Prop) : Nat → (Nat → Nat → Int32) → Int32 → Int32 → Prop
  | 0, _, _, _ => False
  | f + 1, V, x1, x3 =>
    (((8 : Int32) ≤ x3 → (∃ f9, wX6_rather_121 t Q f9 V x1 (0 : Int32))) ∧ (¬ (8 : Int32) ≤ x3 → (vp_in x3 8 ∧ (∀ y113 : Int32, y113 = x3 + (1 : Int32) → wX6_rather_100 t Q f (vset V (t + 8) x3.toNatClampNeg (-1 : Int32)) x1 y113))))
theorem rX6_rather_100 {G : jG} {l : Launch} {d c n : Nat} (htr : l.stackTraces = false) (hdd : 3 ≤ d) {sh : List jH} {t : Nat} (hT : jReg shX6 sh t) {R : Nat → Nat → Option Nat} {Q : Int32 → (Nat → Nat → Int32) → Prop} : ∀ (f : Nat) (V : Nat → Nat → Int32) (x1 : Int32) (x3 : Int32), wX6_rather_100 t Q f V x1 x3 → J G l MX6_rather d c n 100 [(0, .ref t), (1, .int x1), (3, .int x3)] [] (mk sh V R) (jWr sh R Q) jNo := by
  intro f
  induction f with
  | zero =>
    intro V x1 x3 hw
    rw [wX6_rather_100] at hw
    exact hw.elim
  | succ f ih =>
    intro V x1 x3 hw
    rw [wX6_rather_100] at hw
    refine J.iload_n 2 dX6_rather_100 rfl ?_
    refine J.bipush (v := (8 : Int32)) dX6_rather_101 (by decide) ?_
    refine J.icmp_ge 119 dX6_rather_103 (by decide) ⟨fun c103 => ?_, fun c103 => ?_⟩
    · have hw := hw.1 c103
      refine J.iconst (v := (0 : Int32)) dX6_rather_119 (by decide) ?_
      refine J.istore_n (lv' := [(3, .int (0 : Int32)), (0, .ref t), (1, .int x1)]) dX6_rather_120 (by decide) rfl ?_
      obtain ⟨f9, hw⟩ := hw
      exact J.pick [1, 2, 0] rfl (rX6_rather_121 htr hdd hT f9 _ _ _ hw)
    · have hw := hw.2 c103
      refine J.aload_n 0 dX6_rather_106 rfl ?_
      refine gX6_35 rfl hT dX6_rather_107 ?_
      refine J.iload_n 2 dX6_rather_110 rfl ?_
      refine J.iconst (v := (-1 : Int32)) dX6_rather_111 (by decide) ?_
      obtain ⟨h112, hw⟩ := hw
      refine JV.iast dX6_rather_112 (hT.ge 8) (hT.at 8 rfl) h112 ?_
      refine J.iincN 2 (K := (1 : Int32)) (lv' := fun y113 => [(3, .int y113), (0, .ref t), (1, .int x1)]) dX6_rather_113 rfl (by decide) (by decide) (fun _ => rfl) hw (fun y113 hw => ?_)
      refine J.goto 100 dX6_rather_116 (by decide) ?_
      exact J.pick [1, 2, 0] rfl (ih _ _ _ hw)
def wX6_rather_86 (t : Nat) (Q : Int32 → (Nat → Nat → Int32) → Prop) (V : Nat → Nat → Int32) (x1 : Int32) (s1 : Int32) : Prop :=
  ((((vset V t 0 s1) t 0) ≤ 0 → (∃ f9, wX6_rather_100 t Q f9 (vset V t 0 s1) x1 (0 : Int32))) ∧ (¬ ((vset V t 0 s1) t 0) ≤ 0 → Q (0 : Int32) (vset V t 0 s1)))
theorem rX6_rather_86 {G : jG} {l : Launch} {d c n : Nat} (htr : l.stackTraces = false) (hdd : 3 ≤ d) {sh : List jH} {t : Nat} (hT : jReg shX6 sh t) {R : Nat → Nat → Option Nat} {Q : Int32 → (Nat → Nat → Int32) → Prop} {V : Nat → Nat → Int32} {x1 : Int32} {s1 : Int32} (hw : wX6_rather_86 t Q V x1 s1) : J G l MX6_rather d c n 86 [(0, .ref t), (1, .int x1)] [.int s1, .ref t] (mk sh V R) (jWr sh R Q) jNo := by
  unfold wX6_rather_86 at hw
  refine pX6_54 rfl hT dX6_rather_86 ?_
  refine J.aload_n 0 dX6_rather_89 rfl ?_
  refine gX6_54 rfl hT dX6_rather_90 ?_
  refine J.if_le 98 dX6_rather_93 (by decide) ⟨fun c93 => ?_, fun c93 => ?_⟩
  · have hw := hw.1 c93
    refine J.iconst (v := (0 : Int32)) dX6_rather_98 (by decide) ?_
    refine J.istore_n (lv' := [(3, .int (0 : Int32)), (0, .ref t), (1, .int x1)]) dX6_rather_99 (by decide) rfl ?_
    obtain ⟨f9, hw⟩ := hw
    exact J.pick [1, 2, 0] rfl (rX6_rather_100 htr hdd hT f9 _ _ _ hw)
  · have hw := hw.2 c93
    refine J.iconst (v := (0 : Int32)) dX6_rather_96 (by decide) ?_
    exact J.iret rfl dX6_rather_97 ⟨_, rfl, _, rfl, hw⟩
def wX6_rather_76 (t : Nat) (Q : Int32 → (Nat → Nat → Int32) → Prop) (V : Nat → Nat → Int32) (x1 : Int32) (x2 : Int32) : Prop :=
  ((x2 = 0 → wX6_rather_86 t Q V x1 (1 : Int32)) ∧ (¬ x2 = 0 → wX6_rather_86 t Q V x1 (0 : Int32)))
theorem rX6_rather_76 {G : jG} {l : Launch} {d c n : Nat} (htr : l.stackTraces = false) (hdd : 3 ≤ d) {sh : List jH} {t : Nat} (hT : jReg shX6 sh t) {R : Nat → Nat → Option Nat} {Q : Int32 → (Nat → Nat → Int32) → Prop} {V : Nat → Nat → Int32} {x1 : Int32} {x2 : Int32} (hw : wX6_rather_76 t Q V x1 x2) : J G l MX6_rather d c n 76 [(0, .ref t), (1, .int x1), (2, .int x2)] [] (mk sh V R) (jWr sh R Q) jNo := by
  unfold wX6_rather_76 at hw
  refine J.aload_n 0 dX6_rather_76 rfl ?_
  refine J.iload_n 2 dX6_rather_77 rfl ?_
  refine J.if_eq 85 dX6_rather_78 (by decide) ⟨fun c78 => ?_, fun c78 => ?_⟩
  · have hw := hw.1 c78
    refine J.iconst (v := (1 : Int32)) dX6_rather_85 (by decide) ?_
    exact J.pick [0, 1] rfl (rX6_rather_86 htr hdd hT hw)
  · have hw := hw.2 c78
    refine J.iconst (v := (0 : Int32)) dX6_rather_81 (by decide) ?_
    refine J.goto 86 dX6_rather_82 (by decide) ?_
    exact J.pick [0, 1] rfl (rX6_rather_86 htr hdd hT hw)
def wX6_rather_28 (t : Nat) (Q : Int32 → (Nat → Nat → Int32) → Prop) : Nat → (Nat → Nat → Int32) → Int32 → Int32 → Int32 → Prop
  | 0, _, _, _, _ => False
  | f + 1, V, x1, x2, x3 =>
    ((x1 ≤ x3 → wX6_rather_76 t Q V x1 x2) ∧ (¬ x1 ≤ x3 → ((x2 = 0 → wX6_rather_76 t Q V x1 x2) ∧ (¬ x2 = 0 → (vp_in x3 400 ∧ (((V (t + 5) x3.toNatClampNeg) < (V (t + 1) 4) → (∀ y70 : Int32, y70 = x3 + (1 : Int32) → wX6_rather_28 t Q f V x1 (1 : Int32) y70)) ∧ (¬ (V (t + 5) x3.toNatClampNeg) < (V (t + 1) 4) → (vp_in x3 400 ∧ ((¬ (V (t + 5) x3.toNatClampNeg) = (255 : Int32) → (∀ y70 : Int32, y70 = x3 + (1 : Int32) → wX6_rather_28 t Q f V x1 (0 : Int32) y70)) ∧ ((V (t + 5) x3.toNatClampNeg) = (255 : Int32) → (∀ y70 : Int32, y70 = x3 + (1 : Int32) → wX6_rather_28 t Q f V x1 (1 : Int32) y70)))))))))))
theorem rX6_rather_28 {G : jG} {l : Launch} {d c n : Nat} (htr : l.stackTraces = false) (hdd : 3 ≤ d) {sh : List jH} {t : Nat} (hT : jReg shX6 sh t) {R : Nat → Nat → Option Nat} {Q : Int32 → (Nat → Nat → Int32) → Prop} : ∀ (f : Nat) (V : Nat → Nat → Int32) (x1 : Int32) (x2 : Int32) (x3 : Int32), wX6_rather_28 t Q f V x1 x2 x3 → J G l MX6_rather d c n 28 [(0, .ref t), (1, .int x1), (2, .int x2), (3, .int x3)] [] (mk sh V R) (jWr sh R Q) jNo := by
  intro f
  induction f with
  | zero =>
    intro V x1 x2 x3 hw
    rw [wX6_rather_28] at hw
    exact hw.elim
  | succ f ih =>
    intro V x1 x2 x3 hw
    rw [wX6_rather_28] at hw
    refine J.iload_n 3 dX6_rather_28 rfl ?_
    refine J.iload_n 1 dX6_rather_29 rfl ?_
    refine J.icmp_ge 76 dX6_rather_30 (by decide) ⟨fun c30 => ?_, fun c30 => ?_⟩
    · have hw := hw.1 c30
      exact J.pick [0, 1, 2] rfl (rX6_rather_76 htr hdd hT hw)
    · have hw := hw.2 c30
      refine J.iload_n 2 dX6_rather_33 rfl ?_
      refine J.if_eq 76 dX6_rather_34 (by decide) ⟨fun c34 => ?_, fun c34 => ?_⟩
      · have hw := hw.1 c34
        exact J.pick [0, 1, 2] rfl (rX6_rather_76 htr hdd hT hw)
      · have hw := hw.2 c34
        refine J.aload_n 0 dX6_rather_37 rfl ?_
        refine gX6_22 rfl hT dX6_rather_38 ?_
        refine J.iload_n 3 dX6_rather_41 rfl ?_
        obtain ⟨h42, hw⟩ := hw
        refine JV.iald dX6_rather_42 (hT.ge 5) (hT.at 5 rfl) h42 ?_
        refine J.aload_n 0 dX6_rather_43 rfl ?_
        refine gX6_7 rfl hT dX6_rather_44 ?_
        refine J.iconst (v := (4 : Int32)) dX6_rather_47 (by decide) ?_
        refine JV.ialdK 4 dX6_rather_48 (hT.ge 1) (hT.at 1 rfl) rfl (by decide) (by decide) ?_
        refine J.icmp_lt 64 dX6_rather_49 (by decide) ⟨fun c49 => ?_, fun c49 => ?_⟩
        · have hw := hw.1 c49
          refine J.iconst (v := (1 : Int32)) dX6_rather_64 (by decide) ?_
          refine J.goto 69 dX6_rather_65 (by decide) ?_
          refine J.istore_n (lv' := [(2, .int (1 : Int32)), (0, .ref t), (1, .int x1), (3, .int x3)]) dX6_rather_69 (by decide) rfl ?_
          refine J.iincN 3 (K := (1 : Int32)) (lv' := fun y70 => [(3, .int y70), (2, .int (1 : Int32)), (0, .ref t), (1, .int x1)]) dX6_rather_70 rfl (by decide) (by decide) (fun _ => rfl) hw (fun y70 hw => ?_)
          refine J.goto 28 dX6_rather_73 (by decide) ?_
          exact J.pick [2, 3, 1, 0] rfl (ih _ _ _ _ hw)
        · have hw := hw.2 c49
          refine J.aload_n 0 dX6_rather_52 rfl ?_
          refine gX6_22 rfl hT dX6_rather_53 ?_
          refine J.iload_n 3 dX6_rather_56 rfl ?_
          obtain ⟨h57, hw⟩ := hw
          refine JV.iald dX6_rather_57 (hT.ge 5) (hT.at 5 rfl) h57 ?_
          refine J.sipush (v := (255 : Int32)) dX6_rather_58 (by decide) ?_
          refine J.icmp_ne 68 dX6_rather_61 (by decide) ⟨fun c61 => ?_, fun c61 => ?_⟩
          · have hw := hw.1 c61
            refine J.iconst (v := (0 : Int32)) dX6_rather_68 (by decide) ?_
            refine J.istore_n (lv' := [(2, .int (0 : Int32)), (0, .ref t), (1, .int x1), (3, .int x3)]) dX6_rather_69 (by decide) rfl ?_
            refine J.iincN 3 (K := (1 : Int32)) (lv' := fun y70 => [(3, .int y70), (2, .int (0 : Int32)), (0, .ref t), (1, .int x1)]) dX6_rather_70 rfl (by decide) (by decide) (fun _ => rfl) hw (fun y70 hw => ?_)
            refine J.goto 28 dX6_rather_73 (by decide) ?_
            exact J.pick [2, 3, 1, 0] rfl (ih _ _ _ _ hw)
          · have hw := hw.2 c61
            refine J.iconst (v := (1 : Int32)) dX6_rather_64 (by decide) ?_
            refine J.goto 69 dX6_rather_65 (by decide) ?_
            refine J.istore_n (lv' := [(2, .int (1 : Int32)), (0, .ref t), (1, .int x1), (3, .int x3)]) dX6_rather_69 (by decide) rfl ?_
            refine J.iincN 3 (K := (1 : Int32)) (lv' := fun y70 => [(3, .int y70), (2, .int (1 : Int32)), (0, .ref t), (1, .int x1)]) dX6_rather_70 rfl (by decide) (by decide) (fun _ => rfl) hw (fun y70 hw => ?_)
            refine J.goto 28 dX6_rather_73 (by decide) ?_
            exact J.pick [2, 3, 1, 0] rfl (ih _ _ _ _ hw)
def wX6_rather (t : Nat) (V : Nat → Nat → Int32) (Q : Int32 → (Nat → Nat → Int32) → Prop) : Prop :=
  (∀ y4 : Int32, y4 = (V t 8) → ((¬ y4 = ((vset V t 8 (0 : Int32)) (t + 1) 3) → (∃ f9, wX6_rather_28 t Q f9 (vset V t 8 (0 : Int32)) y4 (0 : Int32) (0 : Int32))) ∧ (y4 = ((vset V t 8 (0 : Int32)) (t + 1) 3) → (∃ f9, wX6_rather_28 t Q f9 (vset V t 8 (0 : Int32)) y4 (1 : Int32) (0 : Int32)))))
theorem mX6_rather {G : jG} {l : Launch} (htr : l.stackTraces = false) {sh : List jH} {V : Nat → Nat → Int32} {R : Nat → Nat → Option Nat} {t : Nat} (hT : jReg shX6 sh t) {Q : Int32 → (Nat → Nat → Int32) → Prop} (hw : wX6_rather t V Q) : JM G l MX6_rather 3 0 0 [.ref t] (mk sh V R) (jWr sh R Q) jNo := by
  refine JM.intro (by decide) rfl htr (Nat.le_of_ble_eq_true rfl) ?_
  show J G l MX6_rather 3 0 0 0 [(0, .ref t)] [] (mk sh V R) _ _
  unfold wX6_rather at hw
  refine J.aload_n 0 dX6_rather_0 rfl ?_
  refine gX6_81 rfl hT dX6_rather_1 ?_
  refine J.nm hw (fun y4 hw => ?_)
  refine J.istore_n (lv' := [(1, .int y4), (0, .ref t)]) dX6_rather_4 (by decide) rfl ?_
  refine J.aload_n 1 dX6_rather_5 rfl ?_
  refine J.iconst (v := (0 : Int32)) dX6_rather_6 (by decide) ?_
  refine pX6_81 rfl hT dX6_rather_7 ?_
  refine J.iload_n 0 dX6_rather_10 rfl ?_
  refine J.aload_n 1 dX6_rather_11 rfl ?_
  refine gX6_7 rfl hT dX6_rather_12 ?_
  refine J.iconst (v := (3 : Int32)) dX6_rather_15 (by decide) ?_
  refine JV.ialdK 3 dX6_rather_16 (hT.ge 1) (hT.at 1 rfl) rfl (by decide) (by decide) ?_
  refine J.icmp_ne 24 dX6_rather_17 (by decide) ⟨fun c17 => ?_, fun c17 => ?_⟩
  · have hw := hw.1 c17
    refine J.iconst (v := (0 : Int32)) dX6_rather_24 (by decide) ?_
    refine J.istore_n (lv' := [(2, .int (0 : Int32)), (1, .int y4), (0, .ref t)]) dX6_rather_25 (by decide) rfl ?_
    refine J.iconst (v := (0 : Int32)) dX6_rather_26 (by decide) ?_
    refine J.istore_n (lv' := [(3, .int (0 : Int32)), (2, .int (0 : Int32)), (1, .int y4), (0, .ref t)]) dX6_rather_27 (by decide) rfl ?_
    obtain ⟨f9, hw⟩ := hw
    exact J.pick [3, 2, 1, 0] rfl (rX6_rather_28 htr (Nat.le_refl _) hT f9 _ _ _ _ hw)
  · have hw := hw.2 c17
    refine J.iconst (v := (1 : Int32)) dX6_rather_20 (by decide) ?_
    refine J.goto 25 dX6_rather_21 (by decide) ?_
    refine J.istore_n (lv' := [(2, .int (1 : Int32)), (1, .int y4), (0, .ref t)]) dX6_rather_25 (by decide) rfl ?_
    refine J.iconst (v := (0 : Int32)) dX6_rather_26 (by decide) ?_
    refine J.istore_n (lv' := [(3, .int (0 : Int32)), (2, .int (1 : Int32)), (1, .int y4), (0, .ref t)]) dX6_rather_27 (by decide) rfl ?_
    obtain ⟨f9, hw⟩ := hw
    exact J.pick [3, 2, 1, 0] rfl (rX6_rather_28 htr (Nat.le_refl _) hT f9 _ _ _ _ hw)
theorem kX6_418 {G : jG} {l : Launch} {M : jM} {d c n pc : Nat} {lv : List (Nat × Value)} {rest : List Value} {post : Option Value → List jC → Prop} {xp : String → List jC → Prop} (hM : M.1.cls = RX6) (htr : l.stackTraces = false) {sh : List jH} {V : Nat → Nat → Int32} {R : Nat → Nat → Option Nat} {a1 : Int32} {a2 : Int32} {Q : Int32 → Prop} (hd : decode M.2.1 pc = .ok (.invokestatic 418, 3)) (hdd : 0 + 1 ≤ d) (hw8 : (rest.map fun v => v.category).sum ≤ 8) (hw : wX6_gateHas a1 a2 Q) (kk : ∀ r, Q r → J G l M d c n (pc + 3) lv (.int r :: rest) (mk sh V R) post xp) : J G l M d c n pc lv (.int a2 :: .int a1 :: rest) (mk sh V R) post xp :=
  J.callS (As := [.int a1, .int a2]) (hcw := by rw [hM]; exact lw_S q2708 q2709 q152 q2710) (mX6_gateHas htr hw) hd rfl ⟨by decide, by decide, by show _ = some 2; decide +kernel⟩ hw8 ⟨hdd, by decide⟩ jcc0 (fun r9 g9 h9 => by obtain ⟨rfl, r, rfl, h⟩ := h9; exact kk r h) jNo.x
theorem kX6_421 {G : jG} {l : Launch} {M : jM} {d c n pc : Nat} {lv : List (Nat × Value)} {rest : List Value} {post : Option Value → List jC → Prop} {xp : String → List jC → Prop} (hM : M.1.cls = RX6) (htr : l.stackTraces = false) {sh : List jH} {V : Nat → Nat → Int32} {R : Nat → Nat → Option Nat} {t : Nat} (hT : jReg shX6 sh t) {a1 : Int32} {a2 : Int32} {a3 : Int32} {a4 : Int32} {Q : Int32 → Prop} (hd : decode M.2.1 pc = .ok (.invokevirtual 421, 3)) (hdd : 1 + 1 ≤ d) (hw8 : (rest.map fun v => v.category).sum ≤ 8) (hw : wX6_comerHas t V a1 a2 a3 a4 Q) (kk : ∀ r, Q r → J G l M d c n (pc + 3) lv (.int r :: rest) (mk sh V R) post xp) : J G l M d c n pc lv (.int a4 :: .int a3 :: .int a2 :: .int a1 :: .ref t :: rest) (mk sh V R) post xp :=
  J.callV (As := [.int a1, .int a2, .int a3, .int a4]) (hcw := by rw [hM]; exact lw_V q2711 q2713 qs139 q152 q2714) (mX6_comerHas htr hT hw) hd rfl ⟨5, _, _, mk_at (hT.at 0 rfl), rfl, rfl, fun _ => rfl⟩ ⟨rfl, by decide, by decide, by show _ = some 4; decide +kernel⟩ hw8 ⟨hdd, by decide⟩ jcc0 (fun r9 g9 h9 => by obtain ⟨rfl, r, rfl, h⟩ := h9; exact kk r h) jNo.x
-- VisitingHoursModel.rests(II)I
abbrev MX6_rests : jM := (yX6_rests, cX6_rests, 7, some .int, [])
def wX6_rests_39 (t : Nat) (a1 : Int32) (a2 : Int32) (Q : Int32 → (Nat → Nat → Int32) → Prop) : Nat → (Nat → Nat → Int32) → Int32 → Int32 → Prop
  | 0, _, _, _ => False
  | f + 1, V, x3, x4 =>
    (((4 : Int32) ≤ x4 → Q x3 V) ∧ (¬ (4 : Int32) ≤ x4 → (∀ y49 : Int32, y49 = (x4 / (2 : Int32)) → (∀ y55 : Int32, y55 = (x4 - x4 / (2 : Int32) * (2 : Int32)) → wX6_gateHas ((1 : Int32) - y49) y55 (fun r63 => wX6_gateHas y49 y55 (fun r70 => ((r70 < r63 → (∀ y108 : Int32, y108 = x4 + (1 : Int32) → wX6_rests_39 t a1 a2 Q f V x3 y108)) ∧ (¬ r70 < r63 → wX6_comerHas t V a1 a2 y49 ((1 : Int32) - y55) (fun r85 => wX6_comerHas t V a1 a2 y49 y55 (fun r95 => ((r95 < r85 → (∀ y108 : Int32, y108 = x4 + (1 : Int32) → wX6_rests_39 t a1 a2 Q f V x3 y108)) ∧ (¬ r95 < r85 → (∀ y107 : Int32, y107 = (x3 ||| ((1 : Int32) <<< (x4 &&& 31))) → (∀ y108 : Int32, y108 = x4 + (1 : Int32) → wX6_rests_39 t a1 a2 Q f V y107 y108))))))))))))))
theorem rX6_rests_39 {G : jG} {l : Launch} {d c n : Nat} (htr : l.stackTraces = false) (hdd : 2 ≤ d) {sh : List jH} {t : Nat} (hT : jReg shX6 sh t) {R : Nat → Nat → Option Nat} {a1 : Int32} {a2 : Int32} {Q : Int32 → (Nat → Nat → Int32) → Prop} : ∀ (f : Nat) (V : Nat → Nat → Int32) (x3 : Int32) (x4 : Int32), wX6_rests_39 t a1 a2 Q f V x3 x4 → J G l MX6_rests d c n 39 [(0, .ref t), (1, .int a1), (2, .int a2), (3, .int x3), (4, .int x4)] [] (mk sh V R) (jWr sh R Q) jNo := by
  intro f
  induction f with
  | zero =>
    intro V x3 x4 hw
    rw [wX6_rests_39] at hw
    exact hw.elim
  | succ f ih =>
    intro V x3 x4 hw
    rw [wX6_rests_39] at hw
    refine J.iload 4 dX6_rests_39 rfl ?_
    refine J.iconst (v := (4 : Int32)) dX6_rests_41 (by decide) ?_
    refine J.icmp_ge 114 dX6_rests_42 (by decide) ⟨fun c42 => ?_, fun c42 => ?_⟩
    · have hw := hw.1 c42
      refine J.iload_n 3 dX6_rests_114 rfl ?_
      exact J.iret rfl dX6_rests_115 ⟨_, rfl, _, rfl, hw⟩
    · have hw := hw.2 c42
      refine J.iload 4 dX6_rests_45 rfl ?_
      refine J.iconst (v := (2 : Int32)) dX6_rests_47 (by decide) ?_
      refine J.idiv dX6_rests_48 (by decide) ?_
      refine J.nm hw (fun y49 hw => ?_)
      refine J.istore (lv' := [(5, .int y49), (0, .ref t), (1, .int a1), (2, .int a2), (3, .int x3), (4, .int x4)]) dX6_rests_49 (by decide) rfl ?_
      refine J.iload 5 dX6_rests_51 rfl ?_
      refine J.iconst (v := (2 : Int32)) dX6_rests_53 (by decide) ?_
      refine J.irem dX6_rests_54 (by decide) ?_
      refine J.nm hw (fun y55 hw => ?_)
      refine J.istore (lv' := [(6, .int y55), (5, .int y49), (0, .ref t), (1, .int a1), (2, .int a2), (3, .int x3), (4, .int x4)]) dX6_rests_55 (by decide) rfl ?_
      refine J.iconst (v := (1 : Int32)) dX6_rests_57 (by decide) ?_
      refine J.iload 1 dX6_rests_58 rfl ?_
      refine J.isub dX6_rests_60 ?_
      refine J.iload 0 dX6_rests_61 rfl ?_
      refine kX6_418 rfl htr dX6_rests_63 (by omega) (Nat.le_of_ble_eq_true rfl) hw (fun r63 hw => ?_)
      refine J.iload 1 dX6_rests_66 rfl ?_
      refine J.iload 0 dX6_rests_68 rfl ?_
      refine kX6_418 rfl htr dX6_rests_70 (by omega) (Nat.le_of_ble_eq_true rfl) hw (fun r70 hw => ?_)
      refine J.icmp_gt 108 dX6_rests_73 (by decide) ⟨fun c73 => ?_, fun c73 => ?_⟩
      · have hw := hw.1 c73
        refine J.iincN 6 (K := (1 : Int32)) (lv' := fun y108 => [(4, .int y108), (6, .int y55), (5, .int y49), (0, .ref t), (1, .int a1), (2, .int a2), (3, .int x3)]) dX6_rests_108 rfl (by decide) (by decide) (fun _ => rfl) hw (fun y108 hw => ?_)
        refine J.goto 39 dX6_rests_111 (by decide) ?_
        exact J.pick [3, 4, 5, 6, 0] rfl (ih _ _ _ hw)
      · have hw := hw.2 c73
        refine J.aload_n 2 dX6_rests_76 rfl ?_
        refine J.iload_n 3 dX6_rests_77 rfl ?_
        refine J.iload_n 4 dX6_rests_78 rfl ?_
        refine J.iload 1 dX6_rests_79 rfl ?_
        refine J.iconst (v := (1 : Int32)) dX6_rests_81 (by decide) ?_
        refine J.iload 0 dX6_rests_82 rfl ?_
        refine J.isub dX6_rests_84 ?_
        refine kX6_421 rfl htr hT dX6_rests_85 (by omega) (Nat.le_of_ble_eq_true rfl) hw (fun r85 hw => ?_)
        refine J.aload_n 2 dX6_rests_88 rfl ?_
        refine J.iload_n 3 dX6_rests_89 rfl ?_
        refine J.iload_n 4 dX6_rests_90 rfl ?_
        refine J.iload 1 dX6_rests_91 rfl ?_
        refine J.iload 0 dX6_rests_93 rfl ?_
        refine kX6_421 rfl htr hT dX6_rests_95 (by omega) (Nat.le_of_ble_eq_true rfl) hw (fun r95 hw => ?_)
        refine J.icmp_gt 108 dX6_rests_98 (by decide) ⟨fun c98 => ?_, fun c98 => ?_⟩
        · have hw := hw.1 c98
          refine J.iincN 6 (K := (1 : Int32)) (lv' := fun y108 => [(4, .int y108), (6, .int y55), (5, .int y49), (0, .ref t), (1, .int a1), (2, .int a2), (3, .int x3)]) dX6_rests_108 rfl (by decide) (by decide) (fun _ => rfl) hw (fun y108 hw => ?_)
          refine J.goto 39 dX6_rests_111 (by decide) ?_
          exact J.pick [3, 4, 5, 6, 0] rfl (ih _ _ _ hw)
        · have hw := hw.2 c98
          refine J.iload_n 5 dX6_rests_101 rfl ?_
          refine J.iconst (v := (1 : Int32)) dX6_rests_102 (by decide) ?_
          refine J.iload 6 dX6_rests_103 rfl ?_
          refine J.ishl dX6_rests_105 ?_
          refine J.ior dX6_rests_106 ?_
          refine J.nm hw (fun y107 hw => ?_)
          refine J.istore_n (lv' := [(3, .int y107), (6, .int y55), (5, .int y49), (0, .ref t), (1, .int a1), (2, .int a2), (4, .int x4)]) dX6_rests_107 (by decide) rfl ?_
          refine J.iincN 6 (K := (1 : Int32)) (lv' := fun y108 => [(4, .int y108), (3, .int y107), (6, .int y55), (5, .int y49), (0, .ref t), (1, .int a1), (2, .int a2)]) dX6_rests_108 rfl (by decide) (by decide) (fun _ => rfl) hw (fun y108 hw => ?_)
          refine J.goto 39 dX6_rests_111 (by decide) ?_
          exact J.pick [4, 5, 6, 1, 0] rfl (ih _ _ _ hw)
def wX6_rests_22 (t : Nat) (a1 : Int32) (a2 : Int32) (Q : Int32 → (Nat → Nat → Int32) → Prop) (V : Nat → Nat → Int32) (s1 : Int32) : Prop :=
  ((((vset V t 0 s1) t 0) ≤ 0 → (∃ f9, wX6_rests_39 t a1 a2 Q f9 (vset V t 0 s1) (0 : Int32) (0 : Int32))) ∧ (¬ ((vset V t 0 s1) t 0) ≤ 0 → Q (0 : Int32) (vset V t 0 s1)))
theorem rX6_rests_22 {G : jG} {l : Launch} {d c n : Nat} (htr : l.stackTraces = false) (hdd : 2 ≤ d) {sh : List jH} {t : Nat} (hT : jReg shX6 sh t) {R : Nat → Nat → Option Nat} {a1 : Int32} {a2 : Int32} {Q : Int32 → (Nat → Nat → Int32) → Prop} {V : Nat → Nat → Int32} {s1 : Int32} (hw : wX6_rests_22 t a1 a2 Q V s1) : J G l MX6_rests d c n 22 [(0, .ref t), (1, .int a1), (2, .int a2)] [.int s1, .ref t] (mk sh V R) (jWr sh R Q) jNo := by
  unfold wX6_rests_22 at hw
  refine pX6_54 rfl hT dX6_rests_22 ?_
  refine J.aload_n 0 dX6_rests_25 rfl ?_
  refine gX6_54 rfl hT dX6_rests_26 ?_
  refine J.if_le 34 dX6_rests_29 (by decide) ⟨fun c29 => ?_, fun c29 => ?_⟩
  · have hw := hw.1 c29
    refine J.iconst (v := (0 : Int32)) dX6_rests_34 (by decide) ?_
    refine J.istore_n (lv' := [(3, .int (0 : Int32)), (0, .ref t), (1, .int a1), (2, .int a2)]) dX6_rests_35 (by decide) rfl ?_
    refine J.iconst (v := (0 : Int32)) dX6_rests_36 (by decide) ?_
    refine J.istore (lv' := [(4, .int (0 : Int32)), (3, .int (0 : Int32)), (0, .ref t), (1, .int a1), (2, .int a2)]) dX6_rests_37 (by decide) rfl ?_
    obtain ⟨f9, hw⟩ := hw
    exact J.pick [2, 3, 4, 1, 0] rfl (rX6_rests_39 htr hdd hT f9 _ _ _ hw)
  · have hw := hw.2 c29
    refine J.iconst (v := (0 : Int32)) dX6_rests_32 (by decide) ?_
    exact J.iret rfl dX6_rests_33 ⟨_, rfl, _, rfl, hw⟩
def wX6_rests_17 (t : Nat) (a1 : Int32) (a2 : Int32) (Q : Int32 → (Nat → Nat → Int32) → Prop) (V : Nat → Nat → Int32) : Prop :=
  wX6_rests_22 t a1 a2 Q V (1 : Int32)
theorem rX6_rests_17 {G : jG} {l : Launch} {d c n : Nat} (htr : l.stackTraces = false) (hdd : 2 ≤ d) {sh : List jH} {t : Nat} (hT : jReg shX6 sh t) {R : Nat → Nat → Option Nat} {a1 : Int32} {a2 : Int32} {Q : Int32 → (Nat → Nat → Int32) → Prop} {V : Nat → Nat → Int32} (hw : wX6_rests_17 t a1 a2 Q V) : J G l MX6_rests d c n 17 [(0, .ref t), (1, .int a1), (2, .int a2)] [.ref t] (mk sh V R) (jWr sh R Q) jNo := by
  unfold wX6_rests_17 at hw
  refine J.iconst (v := (1 : Int32)) dX6_rests_17 (by decide) ?_
  refine J.goto 22 dX6_rests_18 (by decide) ?_
  exact (rX6_rests_22 htr hdd hT hw)
def wX6_rests (t : Nat) (V : Nat → Nat → Int32) (a1 : Int32) (a2 : Int32) (Q : Int32 → (Nat → Nat → Int32) → Prop) : Prop :=
  wX6_isHost t V a1 (fun r3 => ((r3 = 0 → wX6_rests_17 t a1 a2 Q V) ∧ (¬ r3 = 0 → wX6_isGuest t V a2 (fun r11 => ((¬ r11 = 0 → wX6_rests_22 t a1 a2 Q V (0 : Int32)) ∧ (r11 = 0 → wX6_rests_17 t a1 a2 Q V))))))
theorem mX6_rests {G : jG} {l : Launch} (htr : l.stackTraces = false) {sh : List jH} {V : Nat → Nat → Int32} {R : Nat → Nat → Option Nat} {t : Nat} (hT : jReg shX6 sh t) {a1 : Int32} {a2 : Int32} {Q : Int32 → (Nat → Nat → Int32) → Prop} (hw : wX6_rests t V a1 a2 Q) : JM G l MX6_rests 2 0 0 [.ref t, .int a1, .int a2] (mk sh V R) (jWr sh R Q) jNo := by
  refine JM.intro (by decide) rfl htr (Nat.le_of_ble_eq_true rfl) ?_
  show J G l MX6_rests 2 0 0 0 [(0, .ref t), (1, .int a1), (2, .int a2)] [] (mk sh V R) _ _
  unfold wX6_rests at hw
  refine J.aload_n 0 dX6_rests_0 rfl ?_
  refine J.aload_n 0 dX6_rests_1 rfl ?_
  refine J.iload_n 1 dX6_rests_2 rfl ?_
  refine kX6_310 rfl htr hT dX6_rests_3 (by omega) (Nat.le_of_ble_eq_true rfl) hw (fun r3 hw => ?_)
  refine J.if_eq 17 dX6_rests_6 (by decide) ⟨fun c6 => ?_, fun c6 => ?_⟩
  · have hw := hw.1 c6
    exact (rX6_rests_17 htr (Nat.le_refl _) hT hw)
  · have hw := hw.2 c6
    refine J.aload_n 0 dX6_rests_9 rfl ?_
    refine J.iload_n 2 dX6_rests_10 rfl ?_
    refine kX6_322 rfl htr hT dX6_rests_11 (by omega) (Nat.le_of_ble_eq_true rfl) hw (fun r11 hw => ?_)
    refine J.if_ne 21 dX6_rests_14 (by decide) ⟨fun c14 => ?_, fun c14 => ?_⟩
    · have hw := hw.1 c14
      refine J.iconst (v := (0 : Int32)) dX6_rests_21 (by decide) ?_
      exact (rX6_rests_22 htr (Nat.le_refl _) hT hw)
    · have hw := hw.2 c14
      exact (rX6_rests_17 htr (Nat.le_refl _) hT hw)
theorem gX6_51 {G : jG} {l : Launch} {M : jM} {d c n pc : Nat} {lv : List (Nat × Value)} {st : List Value} {sh : List jH} {V : Nat → Nat → Int32} {R : Nat → Nat → Option Nat} {post : Option Value → List jC → Prop} {xp : String → List jC → Prop} {t : Nat} (hM : M.1.cls = RX6) (hT : jReg shX6 sh t) (hd : decode M.2.1 pc = .ok (.getfield 51, 3)) (kk : J G l M d c n (pc + 3) lv (.ref (t + 13) :: st) (mk sh V R) post xp) : J G l M d c n pc lv (.ref t :: st) (mk sh V R) post xp := JV.getf (C := RX6) (T0 := TX6) (N := 28) 27 hd hT.1 (hT.at 0 rfl) rfl in_X6 (by decide) (by rw [hM]; exact q2155) rfl rfl kk
theorem kX6_378 {G : jG} {l : Launch} {M : jM} {d c n pc : Nat} {lv : List (Nat × Value)} {rest : List Value} {post : Option Value → List jC → Prop} {xp : String → List jC → Prop} (hM : M.1.cls = RX6) (htr : l.stackTraces = false) {sh : List jH} {V : Nat → Nat → Int32} {R : Nat → Nat → Option Nat} {t : Nat} (hT : jReg shX6 sh t) {a1 : Int32} {a2 : Int32} {a3 : Int32} {Q : Int32 → Prop} (hd : decode M.2.1 pc = .ok (.invokevirtual 378, 3)) (hdd : 2 + 1 ≤ d) (hw8 : (rest.map fun v => v.category).sum ≤ 8) (hw : wX6_fitsFrom t V a1 a2 a3 Q) (kk : ∀ r, Q r → J G l M d c n (pc + 3) lv (.int r :: rest) (mk sh V R) post xp) : J G l M d c n pc lv (.int a3 :: .int a2 :: .int a1 :: .ref t :: rest) (mk sh V R) post xp :=
  J.callV (As := [.int a1, .int a2, .int a3]) (hcw := by rw [hM]; exact lw_V q2624 q2626 qs131 q152 q2627) (mX6_fitsFrom htr hT hw) hd rfl ⟨5, _, _, mk_at (hT.at 0 rfl), rfl, rfl, fun _ => rfl⟩ ⟨rfl, by decide, by decide, by show _ = some 3; decide +kernel⟩ hw8 ⟨hdd, by decide⟩ jcc0 (fun r9 g9 h9 => by obtain ⟨rfl, r, rfl, h⟩ := h9; exact kk r h) jNo.x
-- VisitingHoursModel.rowsOf(II)V
abbrev MX6_rowsOf : jM := (yX6_rowsOf, cX6_rowsOf, 6, none, [])
def wX6_rowsOf_87 (t : Nat) (a1 : Int32) (a2 : Int32) (Q : (Nat → Nat → Int32) → Prop) (K32 : (Nat → Nat → Int32) → Int32 → Prop) (K41 : (Nat → Nat → Int32) → Int32 → Int32 → Prop) : Nat → (Nat → Nat → Int32) → Int32 → Int32 → Int32 → Prop
  | 0, _, _, _, _ => False
  | f + 1, V, x3, x4, x5 =>
    (((V (t + 1) 4) ≤ x5 → (∀ y156 : Int32, y156 = x4 + (1 : Int32) → K41 V x3 y156)) ∧ (¬ (V (t + 1) 4) ≤ x5 → wX6_isOf (a2 &&& (x4 ^^^ (-1 : Int32))) x5 (fun r106 => ((r106 = 0 → (∀ y150 : Int32, y150 = x5 + (1 : Int32) → wX6_rowsOf_87 t a1 a2 Q K32 K41 f V x3 x4 y150)) ∧ (¬ r106 = 0 → wX6_fitsFrom t V a1 x5 x3 (fun r117 => ((r117 = 0 → (∀ y150 : Int32, y150 = x5 + (1 : Int32) → wX6_rowsOf_87 t a1 a2 Q K32 K41 f V x3 x4 y150)) ∧ (¬ r117 = 0 → wX6_ofGuest t V x5 (0 : Int32) (fun r135 => (vp_in (((256 : Int32) * (x3 + r135)) + (x4 ||| ((1 : Int32) <<< (x5 &&& 31)))) 2304 ∧ (∀ y150 : Int32, y150 = x5 + (1 : Int32) → wX6_rowsOf_87 t a1 a2 Q K32 K41 f (vset V (t + 13) (((256 : Int32) * (x3 + r135)) + (x4 ||| ((1 : Int32) <<< (x5 &&& 31)))).toNatClampNeg (vp_nar .boolean (1 : Int32))) x3 x4 y150)))))))))))
theorem rX6_rowsOf_87 {G : jG} {l : Launch} {d c n : Nat} (htr : l.stackTraces = false) (hdd : 3 ≤ d) {sh : List jH} {t : Nat} (hT : jReg shX6 sh t) {R : Nat → Nat → Option Nat} {a1 : Int32} {a2 : Int32} {Q : (Nat → Nat → Int32) → Prop} {K32 : (Nat → Nat → Int32) → Int32 → Prop} {K41 : (Nat → Nat → Int32) → Int32 → Int32 → Prop} (hK32 : ∀ (V : Nat → Nat → Int32) (x3 : Int32), K32 V x3 → J G l MX6_rowsOf d c n 32 [(0, .ref t), (1, .int a1), (2, .int a2), (3, .int x3)] [] (mk sh V R) (jWv sh R Q) jNo) (hK41 : ∀ (V : Nat → Nat → Int32) (x3 : Int32) (x4 : Int32), K41 V x3 x4 → J G l MX6_rowsOf d c n 41 [(0, .ref t), (1, .int a1), (2, .int a2), (3, .int x3), (4, .int x4)] [] (mk sh V R) (jWv sh R Q) jNo) : ∀ (f : Nat) (V : Nat → Nat → Int32) (x3 : Int32) (x4 : Int32) (x5 : Int32), wX6_rowsOf_87 t a1 a2 Q K32 K41 f V x3 x4 x5 → J G l MX6_rowsOf d c n 87 [(0, .ref t), (1, .int a1), (2, .int a2), (3, .int x3), (4, .int x4), (5, .int x5)] [] (mk sh V R) (jWv sh R Q) jNo := by
  intro f
  induction f with
  | zero =>
    intro V x3 x4 x5 hw
    rw [wX6_rowsOf_87] at hw
    exact hw.elim
  | succ f ih =>
    intro V x3 x4 x5 hw
    rw [wX6_rowsOf_87] at hw
    refine J.iload 5 dX6_rowsOf_87 rfl ?_
    refine J.aload_n 0 dX6_rowsOf_89 rfl ?_
    refine gX6_7 rfl hT dX6_rowsOf_90 ?_
    refine J.iconst (v := (4 : Int32)) dX6_rowsOf_93 (by decide) ?_
    refine JV.ialdK 4 dX6_rowsOf_94 (hT.ge 1) (hT.at 1 rfl) rfl (by decide) (by decide) ?_
    refine J.icmp_ge 156 dX6_rowsOf_95 (by decide) ⟨fun c95 => ?_, fun c95 => ?_⟩
    · have hw := hw.1 c95
      refine J.iincN 4 (K := (1 : Int32)) (lv' := fun y156 => [(4, .int y156), (0, .ref t), (1, .int a1), (2, .int a2), (3, .int x3), (5, .int x5)]) dX6_rowsOf_156 rfl (by decide) (by decide) (fun _ => rfl) hw (fun y156 hw => ?_)
      refine J.goto 41 dX6_rowsOf_159 (by decide) ?_
      exact J.pick [1, 2, 3, 4, 0] rfl (hK41 _ _ _ hw)
    · have hw := hw.2 c95
      refine J.iload_n 2 dX6_rowsOf_98 rfl ?_
      refine J.iload 4 dX6_rowsOf_99 rfl ?_
      refine J.iconst (v := (-1 : Int32)) dX6_rowsOf_101 (by decide) ?_
      refine J.ixor dX6_rowsOf_102 ?_
      refine J.iand dX6_rowsOf_103 ?_
      refine J.iload 5 dX6_rowsOf_104 rfl ?_
      refine kX6_74 rfl htr dX6_rowsOf_106 (by omega) (Nat.le_of_ble_eq_true rfl) hw (fun r106 hw => ?_)
      refine J.if_eq 150 dX6_rowsOf_109 (by decide) ⟨fun c109 => ?_, fun c109 => ?_⟩
      · have hw := hw.1 c109
        refine J.iincN 5 (K := (1 : Int32)) (lv' := fun y150 => [(5, .int y150), (0, .ref t), (1, .int a1), (2, .int a2), (3, .int x3), (4, .int x4)]) dX6_rowsOf_150 rfl (by decide) (by decide) (fun _ => rfl) hw (fun y150 hw => ?_)
        refine J.goto 87 dX6_rowsOf_153 (by decide) ?_
        exact J.pick [1, 2, 3, 4, 5, 0] rfl (ih _ _ _ _ hw)
      · have hw := hw.2 c109
        refine J.aload_n 0 dX6_rowsOf_112 rfl ?_
        refine J.iload_n 1 dX6_rowsOf_113 rfl ?_
        refine J.iload 5 dX6_rowsOf_114 rfl ?_
        refine J.iload_n 3 dX6_rowsOf_116 rfl ?_
        refine kX6_378 rfl htr hT dX6_rowsOf_117 (by omega) (Nat.le_of_ble_eq_true rfl) hw (fun r117 hw => ?_)
        refine J.if_eq 150 dX6_rowsOf_120 (by decide) ⟨fun c120 => ?_, fun c120 => ?_⟩
        · have hw := hw.1 c120
          refine J.iincN 5 (K := (1 : Int32)) (lv' := fun y150 => [(5, .int y150), (0, .ref t), (1, .int a1), (2, .int a2), (3, .int x3), (4, .int x4)]) dX6_rowsOf_150 rfl (by decide) (by decide) (fun _ => rfl) hw (fun y150 hw => ?_)
          refine J.goto 87 dX6_rowsOf_153 (by decide) ?_
          exact J.pick [1, 2, 3, 4, 5, 0] rfl (ih _ _ _ _ hw)
        · have hw := hw.2 c120
          refine J.aload_n 0 dX6_rowsOf_123 rfl ?_
          refine gX6_51 rfl hT dX6_rowsOf_124 ?_
          refine J.sipush (v := (256 : Int32)) dX6_rowsOf_127 (by decide) ?_
          refine J.iload_n 3 dX6_rowsOf_130 rfl ?_
          refine J.aload_n 0 dX6_rowsOf_131 rfl ?_
          refine J.iload 5 dX6_rowsOf_132 rfl ?_
          refine J.iconst (v := (0 : Int32)) dX6_rowsOf_134 (by decide) ?_
          refine kX6_71 rfl htr hT dX6_rowsOf_135 (by omega) (Nat.le_of_ble_eq_true rfl) hw (fun r135 hw => ?_)
          refine J.iadd dX6_rowsOf_138 ?_
          refine J.imul dX6_rowsOf_139 ?_
          refine J.iload 4 dX6_rowsOf_140 rfl ?_
          refine J.iconst (v := (1 : Int32)) dX6_rowsOf_142 (by decide) ?_
          refine J.iload 5 dX6_rowsOf_143 rfl ?_
          refine J.ishl dX6_rowsOf_145 ?_
          refine J.ior dX6_rowsOf_146 ?_
          refine J.iadd dX6_rowsOf_147 ?_
          refine J.iconst (v := (1 : Int32)) dX6_rowsOf_148 (by decide) ?_
          obtain ⟨h149, hw⟩ := hw
          refine JV.zast dX6_rowsOf_149 (hT.ge 13) (hT.at 13 rfl) h149 ?_
          refine J.iincN 5 (K := (1 : Int32)) (lv' := fun y150 => [(5, .int y150), (0, .ref t), (1, .int a1), (2, .int a2), (3, .int x3), (4, .int x4)]) dX6_rowsOf_150 rfl (by decide) (by decide) (fun _ => rfl) hw (fun y150 hw => ?_)
          refine J.goto 87 dX6_rowsOf_153 (by decide) ?_
          exact J.pick [1, 2, 3, 4, 5, 0] rfl (ih _ _ _ _ hw)
def wX6_rowsOf_41 (t : Nat) (a1 : Int32) (a2 : Int32) (Q : (Nat → Nat → Int32) → Prop) (K32 : (Nat → Nat → Int32) → Int32 → Prop) : Nat → (Nat → Nat → Int32) → Int32 → Int32 → Prop
  | 0, _, _, _ => False
  | f + 1, V, x3, x4 =>
    (((256 : Int32) ≤ x4 → (∀ y162 : Int32, y162 = x3 + (1 : Int32) → K32 V y162)) ∧ (¬ (256 : Int32) ≤ x4 → (vp_in (((256 : Int32) * x3) + x4) 2304 ∧ ((¬ (V (t + 13) (((256 : Int32) * x3) + x4).toNatClampNeg) = 0 → (vp_in (((256 : Int32) * (x3 + (1 : Int32))) + x4) 2304 ∧ (∃ f9, wX6_rowsOf_87 t a1 a2 Q K32 (fun V x3 x4 => wX6_rowsOf_41 t a1 a2 Q K32 f V x3 x4) f9 (vset V (t + 13) (((256 : Int32) * (x3 + (1 : Int32))) + x4).toNatClampNeg (vp_nar .boolean (1 : Int32))) x3 x4 (0 : Int32)))) ∧ ((V (t + 13) (((256 : Int32) * x3) + x4).toNatClampNeg) = 0 → (∀ y156 : Int32, y156 = x4 + (1 : Int32) → wX6_rowsOf_41 t a1 a2 Q K32 f V x3 y156))))))
theorem rX6_rowsOf_41 {G : jG} {l : Launch} {d c n : Nat} (htr : l.stackTraces = false) (hdd : 3 ≤ d) {sh : List jH} {t : Nat} (hT : jReg shX6 sh t) {R : Nat → Nat → Option Nat} {a1 : Int32} {a2 : Int32} {Q : (Nat → Nat → Int32) → Prop} {K32 : (Nat → Nat → Int32) → Int32 → Prop} (hK32 : ∀ (V : Nat → Nat → Int32) (x3 : Int32), K32 V x3 → J G l MX6_rowsOf d c n 32 [(0, .ref t), (1, .int a1), (2, .int a2), (3, .int x3)] [] (mk sh V R) (jWv sh R Q) jNo) : ∀ (f : Nat) (V : Nat → Nat → Int32) (x3 : Int32) (x4 : Int32), wX6_rowsOf_41 t a1 a2 Q K32 f V x3 x4 → J G l MX6_rowsOf d c n 41 [(0, .ref t), (1, .int a1), (2, .int a2), (3, .int x3), (4, .int x4)] [] (mk sh V R) (jWv sh R Q) jNo := by
  intro f
  induction f with
  | zero =>
    intro V x3 x4 hw
    rw [wX6_rowsOf_41] at hw
    exact hw.elim
  | succ f ih =>
    intro V x3 x4 hw
    rw [wX6_rowsOf_41] at hw
    refine J.iload 4 dX6_rowsOf_41 rfl ?_
    refine J.sipush (v := (256 : Int32)) dX6_rowsOf_43 (by decide) ?_
    refine J.icmp_ge 162 dX6_rowsOf_46 (by decide) ⟨fun c46 => ?_, fun c46 => ?_⟩
    · have hw := hw.1 c46
      refine J.iincN 3 (K := (1 : Int32)) (lv' := fun y162 => [(3, .int y162), (0, .ref t), (1, .int a1), (2, .int a2), (4, .int x4)]) dX6_rowsOf_162 rfl (by decide) (by decide) (fun _ => rfl) hw (fun y162 hw => ?_)
      refine J.goto 32 dX6_rowsOf_165 (by decide) ?_
      exact J.pick [1, 2, 3, 0] rfl (hK32 _ _ hw)
    · have hw := hw.2 c46
      refine J.aload_n 0 dX6_rowsOf_49 rfl ?_
      refine gX6_51 rfl hT dX6_rowsOf_50 ?_
      refine J.sipush (v := (256 : Int32)) dX6_rowsOf_53 (by decide) ?_
      refine J.iload_n 3 dX6_rowsOf_56 rfl ?_
      refine J.imul dX6_rowsOf_57 ?_
      refine J.iload 4 dX6_rowsOf_58 rfl ?_
      refine J.iadd dX6_rowsOf_60 ?_
      obtain ⟨h61, hw⟩ := hw
      refine JV.zald dX6_rowsOf_61 (hT.ge 13) (hT.at 13 rfl) h61 ?_
      refine J.if_ne 68 dX6_rowsOf_62 (by decide) ⟨fun c62 => ?_, fun c62 => ?_⟩
      · have hw := hw.1 c62
        refine J.aload_n 0 dX6_rowsOf_68 rfl ?_
        refine gX6_51 rfl hT dX6_rowsOf_69 ?_
        refine J.sipush (v := (256 : Int32)) dX6_rowsOf_72 (by decide) ?_
        refine J.iload_n 3 dX6_rowsOf_75 rfl ?_
        refine J.iconst (v := (1 : Int32)) dX6_rowsOf_76 (by decide) ?_
        refine J.iadd dX6_rowsOf_77 ?_
        refine J.imul dX6_rowsOf_78 ?_
        refine J.iload 4 dX6_rowsOf_79 rfl ?_
        refine J.iadd dX6_rowsOf_81 ?_
        refine J.iconst (v := (1 : Int32)) dX6_rowsOf_82 (by decide) ?_
        obtain ⟨h83, hw⟩ := hw
        refine JV.zast dX6_rowsOf_83 (hT.ge 13) (hT.at 13 rfl) h83 ?_
        refine J.iconst (v := (0 : Int32)) dX6_rowsOf_84 (by decide) ?_
        refine J.istore (lv' := [(5, .int (0 : Int32)), (0, .ref t), (1, .int a1), (2, .int a2), (3, .int x3), (4, .int x4)]) dX6_rowsOf_85 (by decide) rfl ?_
        obtain ⟨f9, hw⟩ := hw
        exact J.pick [1, 2, 3, 4, 5, 0] rfl (rX6_rowsOf_87 htr hdd hT hK32 ih f9 _ _ _ _ hw)
      · have hw := hw.2 c62
        refine J.goto 156 dX6_rowsOf_65 (by decide) ?_
        refine J.iincN 4 (K := (1 : Int32)) (lv' := fun y156 => [(4, .int y156), (0, .ref t), (1, .int a1), (2, .int a2), (3, .int x3)]) dX6_rowsOf_156 rfl (by decide) (by decide) (fun _ => rfl) hw (fun y156 hw => ?_)
        refine J.goto 41 dX6_rowsOf_159 (by decide) ?_
        exact J.pick [1, 2, 3, 4, 0] rfl (ih _ _ _ hw)
def wX6_rowsOf_32 (t : Nat) (a1 : Int32) (a2 : Int32) (Q : (Nat → Nat → Int32) → Prop) : Nat → (Nat → Nat → Int32) → Int32 → Prop
  | 0, _, _ => False
  | f + 1, V, x3 =>
    (((8 : Int32) ≤ x3 → Q V) ∧ (¬ (8 : Int32) ≤ x3 → (∃ f9, wX6_rowsOf_41 t a1 a2 Q (fun V x3 => wX6_rowsOf_32 t a1 a2 Q f V x3) f9 V x3 (0 : Int32))))
theorem rX6_rowsOf_32 {G : jG} {l : Launch} {d c n : Nat} (htr : l.stackTraces = false) (hdd : 3 ≤ d) {sh : List jH} {t : Nat} (hT : jReg shX6 sh t) {R : Nat → Nat → Option Nat} {a1 : Int32} {a2 : Int32} {Q : (Nat → Nat → Int32) → Prop} : ∀ (f : Nat) (V : Nat → Nat → Int32) (x3 : Int32), wX6_rowsOf_32 t a1 a2 Q f V x3 → J G l MX6_rowsOf d c n 32 [(0, .ref t), (1, .int a1), (2, .int a2), (3, .int x3)] [] (mk sh V R) (jWv sh R Q) jNo := by
  intro f
  induction f with
  | zero =>
    intro V x3 hw
    rw [wX6_rowsOf_32] at hw
    exact hw.elim
  | succ f ih =>
    intro V x3 hw
    rw [wX6_rowsOf_32] at hw
    refine J.iload_n 3 dX6_rowsOf_32 rfl ?_
    refine J.bipush (v := (8 : Int32)) dX6_rowsOf_33 (by decide) ?_
    refine J.icmp_ge 168 dX6_rowsOf_35 (by decide) ⟨fun c35 => ?_, fun c35 => ?_⟩
    · have hw := hw.1 c35
      exact J.vret rfl dX6_rowsOf_168 ⟨_, rfl, rfl, hw⟩
    · have hw := hw.2 c35
      refine J.iconst (v := (0 : Int32)) dX6_rowsOf_38 (by decide) ?_
      refine J.istore (lv' := [(4, .int (0 : Int32)), (0, .ref t), (1, .int a1), (2, .int a2), (3, .int x3)]) dX6_rowsOf_39 (by decide) rfl ?_
      obtain ⟨f9, hw⟩ := hw
      exact J.pick [1, 2, 3, 4, 0] rfl (rX6_rowsOf_41 htr hdd hT ih f9 _ _ _ hw)
def wX6_rowsOf_23 (t : Nat) (a1 : Int32) (a2 : Int32) (Q : (Nat → Nat → Int32) → Prop) (K2 : (Nat → Nat → Int32) → Int32 → Prop) (V : Nat → Nat → Int32) (x3 : Int32) (s1 : Int32) (s2 : Int32) : Prop :=
  (vp_in s1 2304 ∧ (∀ y24 : Int32, y24 = x3 + (1 : Int32) → K2 (vset V (t + 13) s1.toNatClampNeg (vp_nar .boolean s2)) y24))
theorem rX6_rowsOf_23 {G : jG} {l : Launch} {d c n : Nat} (htr : l.stackTraces = false) (hdd : 3 ≤ d) {sh : List jH} {t : Nat} (hT : jReg shX6 sh t) {R : Nat → Nat → Option Nat} {a1 : Int32} {a2 : Int32} {Q : (Nat → Nat → Int32) → Prop} {K2 : (Nat → Nat → Int32) → Int32 → Prop} (hK2 : ∀ (V : Nat → Nat → Int32) (x3 : Int32), K2 V x3 → J G l MX6_rowsOf d c n 2 [(0, .ref t), (1, .int a1), (2, .int a2), (3, .int x3)] [] (mk sh V R) (jWv sh R Q) jNo) {V : Nat → Nat → Int32} {x3 : Int32} {s1 : Int32} {s2 : Int32} (hw : wX6_rowsOf_23 t a1 a2 Q K2 V x3 s1 s2) : J G l MX6_rowsOf d c n 23 [(0, .ref t), (1, .int a1), (2, .int a2), (3, .int x3)] [.int s2, .int s1, .ref (t + 13)] (mk sh V R) (jWv sh R Q) jNo := by
  unfold wX6_rowsOf_23 at hw
  obtain ⟨h23, hw⟩ := hw
  refine JV.zast dX6_rowsOf_23 (hT.ge 13) (hT.at 13 rfl) h23 ?_
  refine J.iincN 3 (K := (1 : Int32)) (lv' := fun y24 => [(3, .int y24), (0, .ref t), (1, .int a1), (2, .int a2)]) dX6_rowsOf_24 rfl (by decide) (by decide) (fun _ => rfl) hw (fun y24 hw => ?_)
  refine J.goto 2 dX6_rowsOf_27 (by decide) ?_
  exact J.pick [1, 2, 3, 0] rfl (hK2 _ _ hw)
def wX6_rowsOf_2 (t : Nat) (a1 : Int32) (a2 : Int32) (Q : (Nat → Nat → Int32) → Prop) : Nat → (Nat → Nat → Int32) → Int32 → Prop
  | 0, _, _ => False
  | f + 1, V, x3 =>
    (((2304 : Int32) ≤ x3 → (∃ f9, wX6_rowsOf_32 t a1 a2 Q f9 V (0 : Int32))) ∧ (¬ (2304 : Int32) ≤ x3 → ((¬ x3 = 0 → wX6_rowsOf_23 t a1 a2 Q (fun V x3 => wX6_rowsOf_2 t a1 a2 Q f V x3) V x3 x3 (0 : Int32)) ∧ (x3 = 0 → wX6_rowsOf_23 t a1 a2 Q (fun V x3 => wX6_rowsOf_2 t a1 a2 Q f V x3) V x3 x3 (1 : Int32)))))
theorem rX6_rowsOf_2 {G : jG} {l : Launch} {d c n : Nat} (htr : l.stackTraces = false) (hdd : 3 ≤ d) {sh : List jH} {t : Nat} (hT : jReg shX6 sh t) {R : Nat → Nat → Option Nat} {a1 : Int32} {a2 : Int32} {Q : (Nat → Nat → Int32) → Prop} : ∀ (f : Nat) (V : Nat → Nat → Int32) (x3 : Int32), wX6_rowsOf_2 t a1 a2 Q f V x3 → J G l MX6_rowsOf d c n 2 [(0, .ref t), (1, .int a1), (2, .int a2), (3, .int x3)] [] (mk sh V R) (jWv sh R Q) jNo := by
  intro f
  induction f with
  | zero =>
    intro V x3 hw
    rw [wX6_rowsOf_2] at hw
    exact hw.elim
  | succ f ih =>
    intro V x3 hw
    rw [wX6_rowsOf_2] at hw
    refine J.iload_n 3 dX6_rowsOf_2 rfl ?_
    refine J.sipush (v := (2304 : Int32)) dX6_rowsOf_3 (by decide) ?_
    refine J.icmp_ge 30 dX6_rowsOf_6 (by decide) ⟨fun c6 => ?_, fun c6 => ?_⟩
    · have hw := hw.1 c6
      refine J.iconst (v := (0 : Int32)) dX6_rowsOf_30 (by decide) ?_
      refine J.istore_n (lv' := [(3, .int (0 : Int32)), (0, .ref t), (1, .int a1), (2, .int a2)]) dX6_rowsOf_31 (by decide) rfl ?_
      obtain ⟨f9, hw⟩ := hw
      exact J.pick [1, 2, 3, 0] rfl (rX6_rowsOf_32 htr hdd hT f9 _ _ hw)
    · have hw := hw.2 c6
      refine J.aload_n 0 dX6_rowsOf_9 rfl ?_
      refine gX6_51 rfl hT dX6_rowsOf_10 ?_
      refine J.iload_n 3 dX6_rowsOf_13 rfl ?_
      refine J.iload_n 3 dX6_rowsOf_14 rfl ?_
      refine J.if_ne 22 dX6_rowsOf_15 (by decide) ⟨fun c15 => ?_, fun c15 => ?_⟩
      · have hw := hw.1 c15
        refine J.iconst (v := (0 : Int32)) dX6_rowsOf_22 (by decide) ?_
        exact (rX6_rowsOf_23 htr hdd hT ih hw)
      · have hw := hw.2 c15
        refine J.iconst (v := (1 : Int32)) dX6_rowsOf_18 (by decide) ?_
        refine J.goto 23 dX6_rowsOf_19 (by decide) ?_
        exact (rX6_rowsOf_23 htr hdd hT ih hw)
def wX6_rowsOf (t : Nat) (V : Nat → Nat → Int32) (a1 : Int32) (a2 : Int32) (Q : (Nat → Nat → Int32) → Prop) : Prop :=
  (∃ f9, wX6_rowsOf_2 t a1 a2 Q f9 V (0 : Int32))
theorem mX6_rowsOf {G : jG} {l : Launch} (htr : l.stackTraces = false) {sh : List jH} {V : Nat → Nat → Int32} {R : Nat → Nat → Option Nat} {t : Nat} (hT : jReg shX6 sh t) {a1 : Int32} {a2 : Int32} {Q : (Nat → Nat → Int32) → Prop} (hw : wX6_rowsOf t V a1 a2 Q) : JM G l MX6_rowsOf 3 0 0 [.ref t, .int a1, .int a2] (mk sh V R) (jWv sh R Q) jNo := by
  refine JM.intro (by decide) rfl htr (Nat.le_of_ble_eq_true rfl) ?_
  show J G l MX6_rowsOf 3 0 0 0 [(0, .ref t), (1, .int a1), (2, .int a2)] [] (mk sh V R) _ _
  unfold wX6_rowsOf at hw
  refine J.iconst (v := (0 : Int32)) dX6_rowsOf_0 (by decide) ?_
  refine J.istore_n (lv' := [(3, .int (0 : Int32)), (0, .ref t), (1, .int a1), (2, .int a2)]) dX6_rowsOf_1 (by decide) rfl ?_
  obtain ⟨f9, hw⟩ := hw
  exact J.pick [1, 2, 3, 0] rfl (rX6_rowsOf_2 htr (Nat.le_refl _) hT f9 _ _ hw)
theorem kX6_381 {G : jG} {l : Launch} {M : jM} {d c n pc : Nat} {lv : List (Nat × Value)} {rest : List Value} {post : Option Value → List jC → Prop} {xp : String → List jC → Prop} (hM : M.1.cls = RX6) (htr : l.stackTraces = false) {sh : List jH} {V : Nat → Nat → Int32} {R : Nat → Nat → Option Nat} {t : Nat} (hT : jReg shX6 sh t) {a1 : Int32} {a2 : Int32} {Q : (Nat → Nat → Int32) → Prop} (hd : decode M.2.1 pc = .ok (.invokevirtual 381, 3)) (hdd : 3 + 1 ≤ d) (hw8 : (rest.map fun v => v.category).sum ≤ 8) (hw : wX6_rowsOf t V a1 a2 Q) (kk : ∀ V', Q V' → J G l M d c n (pc + 3) lv rest (mk sh V' R) post xp) : J G l M d c n pc lv (.int a2 :: .int a1 :: .ref t :: rest) (mk sh V R) post xp :=
  J.callV (As := [.int a1, .int a2]) (hcw := by rw [hM]; exact lw_V q2620 q2622 qs130 q152 q2623) (mX6_rowsOf htr hT hw) hd rfl ⟨5, _, _, mk_at (hT.at 0 rfl), rfl, rfl, fun _ => rfl⟩ ⟨rfl, by decide, by decide, by show _ = some 2; decide +kernel⟩ hw8 ⟨hdd, by decide⟩ jcc0 (fun r9 g9 h9 => by obtain ⟨V9, rfl, rfl, h⟩ := h9; exact kk V9 h) jNo.x
-- VisitingHoursModel.row(IIZ)I
abbrev MX6_row : jM := (yX6_row, cX6_row, 6, some .int, [])
def wX6_row_38 (t : Nat) (a1 : Int32) (a2 : Int32) (a3 : Int32) (Q : Int32 → (Nat → Nat → Int32) → Prop) : Nat → (Nat → Nat → Int32) → Int32 → Int32 → Prop
  | 0, _, _, _ => False
  | f + 1, V, x4, x5 =>
    (((256 : Int32) ≤ x5 → ((a3 = 0 → wX6_bits x4 (fun r94 => Q r94 V)) ∧ (¬ a3 = 0 → Q x4 V))) ∧ (¬ (256 : Int32) ≤ x5 → (vp_in ((2048 : Int32) + x5) 2304 ∧ (((V (t + 13) ((2048 : Int32) + x5).toNatClampNeg) = 0 → (∀ y77 : Int32, y77 = x5 + (1 : Int32) → wX6_row_38 t a1 a2 a3 Q f V x4 y77)) ∧ (¬ (V (t + 13) ((2048 : Int32) + x5).toNatClampNeg) = 0 → wX6_bits x5 (fun r62 => wX6_bits x4 (fun r67 => ((r62 ≤ r67 → (∀ y77 : Int32, y77 = x5 + (1 : Int32) → wX6_row_38 t a1 a2 a3 Q f V x4 y77)) ∧ (¬ r62 ≤ r67 → (∀ y77 : Int32, y77 = x5 + (1 : Int32) → wX6_row_38 t a1 a2 a3 Q f V x5 y77))))))))))
theorem rX6_row_38 {G : jG} {l : Launch} {d c n : Nat} (htr : l.stackTraces = false) (hdd : 4 ≤ d) {sh : List jH} {t : Nat} (hT : jReg shX6 sh t) {R : Nat → Nat → Option Nat} {a1 : Int32} {a2 : Int32} {a3 : Int32} {Q : Int32 → (Nat → Nat → Int32) → Prop} : ∀ (f : Nat) (V : Nat → Nat → Int32) (x4 : Int32) (x5 : Int32), wX6_row_38 t a1 a2 a3 Q f V x4 x5 → J G l MX6_row d c n 38 [(0, .ref t), (3, .int a3), (4, .int x4), (5, .int x5)] [] (mk sh V R) (jWr sh R Q) jNo := by
  intro f
  induction f with
  | zero =>
    intro V x4 x5 hw
    rw [wX6_row_38] at hw
    exact hw.elim
  | succ f ih =>
    intro V x4 x5 hw
    rw [wX6_row_38] at hw
    refine J.iload 3 dX6_row_38 rfl ?_
    refine J.sipush (v := (256 : Int32)) dX6_row_40 (by decide) ?_
    refine J.icmp_ge 83 dX6_row_43 (by decide) ⟨fun c43 => ?_, fun c43 => ?_⟩
    · have hw := hw.1 c43
      refine J.iload_n 1 dX6_row_83 rfl ?_
      refine J.if_eq 92 dX6_row_84 (by decide) ⟨fun c84 => ?_, fun c84 => ?_⟩
      · have hw := hw.1 c84
        refine J.iload 2 dX6_row_92 rfl ?_
        refine kX6_303 rfl htr dX6_row_94 (by omega) (Nat.le_of_ble_eq_true rfl) hw (fun r94 hw => ?_)
        exact J.iret rfl dX6_row_97 ⟨_, rfl, _, rfl, hw⟩
      · have hw := hw.2 c84
        refine J.iload 2 dX6_row_87 rfl ?_
        refine J.goto 97 dX6_row_89 (by decide) ?_
        exact J.iret rfl dX6_row_97 ⟨_, rfl, _, rfl, hw⟩
    · have hw := hw.2 c43
      refine J.aload_n 0 dX6_row_46 rfl ?_
      refine gX6_51 rfl hT dX6_row_47 ?_
      refine J.sipush (v := (2048 : Int32)) dX6_row_50 (by decide) ?_
      refine J.iload 3 dX6_row_53 rfl ?_
      refine J.iadd dX6_row_55 ?_
      obtain ⟨h56, hw⟩ := hw
      refine JV.zald dX6_row_56 (hT.ge 13) (hT.at 13 rfl) h56 ?_
      refine J.if_eq 77 dX6_row_57 (by decide) ⟨fun c57 => ?_, fun c57 => ?_⟩
      · have hw := hw.1 c57
        refine J.iincN 3 (K := (1 : Int32)) (lv' := fun y77 => [(5, .int y77), (0, .ref t), (3, .int a3), (4, .int x4)]) dX6_row_77 rfl (by decide) (by decide) (fun _ => rfl) hw (fun y77 hw => ?_)
        refine J.goto 38 dX6_row_80 (by decide) ?_
        exact J.pick [1, 2, 3, 0] rfl (ih _ _ _ hw)
      · have hw := hw.2 c57
        refine J.iload 3 dX6_row_60 rfl ?_
        refine kX6_303 rfl htr dX6_row_62 (by omega) (Nat.le_of_ble_eq_true rfl) hw (fun r62 hw => ?_)
        refine J.iload 2 dX6_row_65 rfl ?_
        refine kX6_303 rfl htr dX6_row_67 (by omega) (Nat.le_of_ble_eq_true rfl) hw (fun r67 hw => ?_)
        refine J.icmp_le 77 dX6_row_70 (by decide) ⟨fun c70 => ?_, fun c70 => ?_⟩
        · have hw := hw.1 c70
          refine J.iincN 3 (K := (1 : Int32)) (lv' := fun y77 => [(5, .int y77), (0, .ref t), (3, .int a3), (4, .int x4)]) dX6_row_77 rfl (by decide) (by decide) (fun _ => rfl) hw (fun y77 hw => ?_)
          refine J.goto 38 dX6_row_80 (by decide) ?_
          exact J.pick [1, 2, 3, 0] rfl (ih _ _ _ hw)
        · have hw := hw.2 c70
          refine J.iload 3 dX6_row_73 rfl ?_
          refine J.istore (lv' := [(4, .int x5), (0, .ref t), (3, .int a3), (5, .int x5)]) dX6_row_75 (by decide) rfl ?_
          refine J.iincN 3 (K := (1 : Int32)) (lv' := fun y77 => [(5, .int y77), (4, .int x5), (0, .ref t), (3, .int a3)]) dX6_row_77 rfl (by decide) (by decide) (fun _ => rfl) hw (fun y77 hw => ?_)
          refine J.goto 38 dX6_row_80 (by decide) ?_
          exact J.pick [2, 3, 1, 0] rfl (ih _ _ _ hw)
def wX6_row_14 (t : Nat) (a1 : Int32) (a2 : Int32) (a3 : Int32) (Q : Int32 → (Nat → Nat → Int32) → Prop) (V : Nat → Nat → Int32) (s1 : Int32) : Prop :=
  ((((vset V t 0 s1) t 0) ≤ 0 → wX6_rowsOf t (vset V t 0 s1) a1 a2 (fun V29 => (∃ f9, wX6_row_38 t a1 a2 a3 Q f9 V29 (0 : Int32) (1 : Int32)))) ∧ (¬ ((vset V t 0 s1) t 0) ≤ 0 → Q (0 : Int32) (vset V t 0 s1)))
theorem rX6_row_14 {G : jG} {l : Launch} {d c n : Nat} (htr : l.stackTraces = false) (hdd : 4 ≤ d) {sh : List jH} {t : Nat} (hT : jReg shX6 sh t) {R : Nat → Nat → Option Nat} {a1 : Int32} {a2 : Int32} {a3 : Int32} {Q : Int32 → (Nat → Nat → Int32) → Prop} {V : Nat → Nat → Int32} {s1 : Int32} (hw : wX6_row_14 t a1 a2 a3 Q V s1) : J G l MX6_row d c n 14 [(0, .ref t), (1, .int a1), (2, .int a2), (3, .int a3)] [.int s1, .ref t] (mk sh V R) (jWr sh R Q) jNo := by
  unfold wX6_row_14 at hw
  refine pX6_54 rfl hT dX6_row_14 ?_
  refine J.aload_n 0 dX6_row_17 rfl ?_
  refine gX6_54 rfl hT dX6_row_18 ?_
  refine J.if_le 26 dX6_row_21 (by decide) ⟨fun c21 => ?_, fun c21 => ?_⟩
  · have hw := hw.1 c21
    refine J.aload_n 0 dX6_row_26 rfl ?_
    refine J.iload_n 1 dX6_row_27 rfl ?_
    refine J.iload_n 2 dX6_row_28 rfl ?_
    refine kX6_381 rfl htr hT dX6_row_29 (by omega) (Nat.le_of_ble_eq_true rfl) hw (fun V29 hw => ?_)
    refine J.iconst (v := (0 : Int32)) dX6_row_32 (by decide) ?_
    refine J.istore (lv' := [(4, .int (0 : Int32)), (0, .ref t), (1, .int a1), (2, .int a2), (3, .int a3)]) dX6_row_33 (by decide) rfl ?_
    refine J.iconst (v := (1 : Int32)) dX6_row_35 (by decide) ?_
    refine J.istore (lv' := [(5, .int (1 : Int32)), (4, .int (0 : Int32)), (0, .ref t), (1, .int a1), (2, .int a2), (3, .int a3)]) dX6_row_36 (by decide) rfl ?_
    obtain ⟨f9, hw⟩ := hw
    exact J.pick [2, 5, 1, 0] rfl (rX6_row_38 htr hdd hT f9 _ _ _ hw)
  · have hw := hw.2 c21
    refine J.iconst (v := (0 : Int32)) dX6_row_24 (by decide) ?_
    exact J.iret rfl dX6_row_25 ⟨_, rfl, _, rfl, hw⟩
def wX6_row (t : Nat) (V : Nat → Nat → Int32) (a1 : Int32) (a2 : Int32) (a3 : Int32) (Q : Int32 → (Nat → Nat → Int32) → Prop) : Prop :=
  wX6_isHost t V a1 (fun r3 => ((¬ r3 = 0 → wX6_row_14 t a1 a2 a3 Q V (0 : Int32)) ∧ (r3 = 0 → wX6_row_14 t a1 a2 a3 Q V (1 : Int32))))
theorem mX6_row {G : jG} {l : Launch} (htr : l.stackTraces = false) {sh : List jH} {V : Nat → Nat → Int32} {R : Nat → Nat → Option Nat} {t : Nat} (hT : jReg shX6 sh t) {a1 : Int32} {a2 : Int32} {a3 : Int32} {Q : Int32 → (Nat → Nat → Int32) → Prop} (hw : wX6_row t V a1 a2 a3 Q) : JM G l MX6_row 4 0 0 [.ref t, .int a1, .int a2, .int a3] (mk sh V R) (jWr sh R Q) jNo := by
  refine JM.intro (by decide) rfl htr (Nat.le_of_ble_eq_true rfl) ?_
  show J G l MX6_row 4 0 0 0 [(0, .ref t), (1, .int a1), (2, .int a2), (3, .int a3)] [] (mk sh V R) _ _
  unfold wX6_row at hw
  refine J.aload_n 0 dX6_row_0 rfl ?_
  refine J.aload_n 0 dX6_row_1 rfl ?_
  refine J.iload_n 1 dX6_row_2 rfl ?_
  refine kX6_310 rfl htr hT dX6_row_3 (by omega) (Nat.le_of_ble_eq_true rfl) hw (fun r3 hw => ?_)
  refine J.if_ne 13 dX6_row_6 (by decide) ⟨fun c6 => ?_, fun c6 => ?_⟩
  · have hw := hw.1 c6
    refine J.iconst (v := (0 : Int32)) dX6_row_13 (by decide) ?_
    exact (rX6_row_14 htr (Nat.le_refl _) hT hw)
  · have hw := hw.2 c6
    refine J.iconst (v := (1 : Int32)) dX6_row_9 (by decide) ?_
    refine J.goto 14 dX6_row_10 (by decide) ?_
    exact (rX6_row_14 htr (Nat.le_refl _) hT hw)
theorem kX6_399 {G : jG} {l : Launch} {M : jM} {d c n pc : Nat} {lv : List (Nat × Value)} {rest : List Value} {post : Option Value → List jC → Prop} {xp : String → List jC → Prop} (hM : M.1.cls = RX6) (htr : l.stackTraces = false) {sh : List jH} {V : Nat → Nat → Int32} {R : Nat → Nat → Option Nat} {t : Nat} (hT : jReg shX6 sh t) {Q : Int32 → (Nat → Nat → Int32) → Prop} (hd : decode M.2.1 pc = .ok (.invokevirtual 399, 3)) (hdd : 1 + 1 ≤ d) (hw8 : (rest.map fun v => v.category).sum ≤ 8) (hw : wX6_heard t V Q) (kk : ∀ r V', Q r V' → J G l M d c n (pc + 3) lv (.int r :: rest) (mk sh V' R) post xp) : J G l M d c n pc lv (.ref t :: rest) (mk sh V R) post xp :=
  J.callV (As := []) (hcw := by rw [hM]; exact lw_V q2652 q2654 qs135 q152 q2655) (mX6_heard htr hT hw) hd rfl ⟨5, _, _, mk_at (hT.at 0 rfl), rfl, rfl, fun _ => rfl⟩ ⟨rfl, by decide, by decide, by show _ = some 0; decide +kernel⟩ hw8 ⟨hdd, by decide⟩ jcc0 (fun r9 g9 h9 => by obtain ⟨V9, rfl, r, rfl, h⟩ := h9; exact kk r V9 h) jNo.x
-- VisitingHoursModel.rules(Z)I
abbrev MX6_rules : jM := (yX6_rules, cX6_rules, 5, some .int, [])
def wX6_rules_30 (t : Nat) (a1 : Int32) (Q : Int32 → (Nat → Nat → Int32) → Prop) (V : Nat → Nat → Int32) (x2 : Int32) : Prop :=
  (((V t 0) ≤ 0 → Q x2 V) ∧ (¬ (V t 0) ≤ 0 → Q (0 : Int32) V))
theorem rX6_rules_30 {G : jG} {l : Launch} {d c n : Nat} (htr : l.stackTraces = false) (hdd : 2 ≤ d) {sh : List jH} {t : Nat} (hT : jReg shX6 sh t) {R : Nat → Nat → Option Nat} {a1 : Int32} {Q : Int32 → (Nat → Nat → Int32) → Prop} {V : Nat → Nat → Int32} {x2 : Int32} (hw : wX6_rules_30 t a1 Q V x2) : J G l MX6_rules d c n 30 [(0, .ref t), (2, .int x2)] [] (mk sh V R) (jWr sh R Q) jNo := by
  unfold wX6_rules_30 at hw
  refine J.aload_n 0 dX6_rules_30 rfl ?_
  refine gX6_54 rfl hT dX6_rules_31 ?_
  refine J.if_le 41 dX6_rules_34 (by decide) ⟨fun c34 => ?_, fun c34 => ?_⟩
  · have hw := hw.1 c34
    refine J.iload_n 1 dX6_rules_41 rfl ?_
    exact J.iret rfl dX6_rules_42 ⟨_, rfl, _, rfl, hw⟩
  · have hw := hw.2 c34
    refine J.iconst (v := (0 : Int32)) dX6_rules_37 (by decide) ?_
    refine J.goto 42 dX6_rules_38 (by decide) ?_
    exact J.iret rfl dX6_rules_42 ⟨_, rfl, _, rfl, hw⟩
def wX6_rules_80 (t : Nat) (a1 : Int32) (Q : Int32 → (Nat → Nat → Int32) → Prop) (K48 : (Nat → Nat → Int32) → Int32 → Int32 → Prop) (V : Nat → Nat → Int32) (x4 : Int32) : Prop :=
  wX6_bits x4 (fun r82 => (∀ y86 : Int32, y86 = x4 + (1 : Int32) → K48 V r82 y86))
theorem rX6_rules_80 {G : jG} {l : Launch} {d c n : Nat} (htr : l.stackTraces = false) (hdd : 2 ≤ d) {sh : List jH} {t : Nat} (hT : jReg shX6 sh t) {R : Nat → Nat → Option Nat} {a1 : Int32} {Q : Int32 → (Nat → Nat → Int32) → Prop} {K48 : (Nat → Nat → Int32) → Int32 → Int32 → Prop} (hK48 : ∀ (V : Nat → Nat → Int32) (x3 : Int32) (x4 : Int32), K48 V x3 x4 → J G l MX6_rules d c n 48 [(0, .ref t), (3, .int x3), (4, .int x4)] [] (mk sh V R) (jWr sh R Q) jNo) {V : Nat → Nat → Int32} {x4 : Int32} (hw : wX6_rules_80 t a1 Q K48 V x4) : J G l MX6_rules d c n 80 [(0, .ref t), (4, .int x4)] [] (mk sh V R) (jWr sh R Q) jNo := by
  unfold wX6_rules_80 at hw
  refine J.iload 1 dX6_rules_80 rfl ?_
  refine kX6_303 rfl htr dX6_rules_82 (by omega) (Nat.le_of_ble_eq_true rfl) hw (fun r82 hw => ?_)
  refine J.istore_n (lv' := [(3, .int r82), (0, .ref t), (4, .int x4)]) dX6_rules_85 (by decide) rfl ?_
  refine J.iincN 2 (K := (1 : Int32)) (lv' := fun y86 => [(4, .int y86), (3, .int r82), (0, .ref t)]) dX6_rules_86 rfl (by decide) (by decide) (fun _ => rfl) hw (fun y86 hw => ?_)
  refine J.goto 48 dX6_rules_89 (by decide) ?_
  exact J.pick [2, 1, 0] rfl (hK48 _ _ _ hw)
def wX6_rules_48 (t : Nat) (a1 : Int32) (Q : Int32 → (Nat → Nat → Int32) → Prop) : Nat → (Nat → Nat → Int32) → Int32 → Int32 → Prop
  | 0, _, _, _ => False
  | f + 1, V, x3, x4 =>
    (((4096 : Int32) ≤ x4 → Q x3 V) ∧ (¬ (4096 : Int32) ≤ x4 → (vp_in x4 4096 ∧ (((V (t + 12) x4.toNatClampNeg) = 0 → (∀ y86 : Int32, y86 = x4 + (1 : Int32) → wX6_rules_48 t a1 Q f V x3 y86)) ∧ (¬ (V (t + 12) x4.toNatClampNeg) = 0 → ((x3 = (-1 : Int32) → wX6_rules_80 t a1 Q (fun V x3 x4 => wX6_rules_48 t a1 Q f V x3 x4) V x4) ∧ (¬ x3 = (-1 : Int32) → wX6_bits x4 (fun r73 => ((x3 ≤ r73 → (∀ y86 : Int32, y86 = x4 + (1 : Int32) → wX6_rules_48 t a1 Q f V x3 y86)) ∧ (¬ x3 ≤ r73 → wX6_rules_80 t a1 Q (fun V x3 x4 => wX6_rules_48 t a1 Q f V x3 x4) V x4))))))))))
theorem rX6_rules_48 {G : jG} {l : Launch} {d c n : Nat} (htr : l.stackTraces = false) (hdd : 2 ≤ d) {sh : List jH} {t : Nat} (hT : jReg shX6 sh t) {R : Nat → Nat → Option Nat} {a1 : Int32} {Q : Int32 → (Nat → Nat → Int32) → Prop} : ∀ (f : Nat) (V : Nat → Nat → Int32) (x3 : Int32) (x4 : Int32), wX6_rules_48 t a1 Q f V x3 x4 → J G l MX6_rules d c n 48 [(0, .ref t), (3, .int x3), (4, .int x4)] [] (mk sh V R) (jWr sh R Q) jNo := by
  intro f
  induction f with
  | zero =>
    intro V x3 x4 hw
    rw [wX6_rules_48] at hw
    exact hw.elim
  | succ f ih =>
    intro V x3 x4 hw
    rw [wX6_rules_48] at hw
    refine J.iload 2 dX6_rules_48 rfl ?_
    refine J.sipush (v := (4096 : Int32)) dX6_rules_50 (by decide) ?_
    refine J.icmp_ge 92 dX6_rules_53 (by decide) ⟨fun c53 => ?_, fun c53 => ?_⟩
    · have hw := hw.1 c53
      refine J.iload_n 1 dX6_rules_92 rfl ?_
      exact J.iret rfl dX6_rules_93 ⟨_, rfl, _, rfl, hw⟩
    · have hw := hw.2 c53
      refine J.aload_n 0 dX6_rules_56 rfl ?_
      refine gX6_47 rfl hT dX6_rules_57 ?_
      refine J.iload 2 dX6_rules_60 rfl ?_
      obtain ⟨h62, hw⟩ := hw
      refine JV.zald dX6_rules_62 (hT.ge 12) (hT.at 12 rfl) h62 ?_
      refine J.if_eq 86 dX6_rules_63 (by decide) ⟨fun c63 => ?_, fun c63 => ?_⟩
      · have hw := hw.1 c63
        refine J.iincN 2 (K := (1 : Int32)) (lv' := fun y86 => [(4, .int y86), (0, .ref t), (3, .int x3)]) dX6_rules_86 rfl (by decide) (by decide) (fun _ => rfl) hw (fun y86 hw => ?_)
        refine J.goto 48 dX6_rules_89 (by decide) ?_
        exact J.pick [1, 2, 0] rfl (ih _ _ _ hw)
      · have hw := hw.2 c63
        refine J.iload_n 1 dX6_rules_66 rfl ?_
        refine J.iconst (v := (-1 : Int32)) dX6_rules_67 (by decide) ?_
        refine J.icmp_eq 80 dX6_rules_68 (by decide) ⟨fun c68 => ?_, fun c68 => ?_⟩
        · have hw := hw.1 c68
          exact J.pick [0, 2] rfl (rX6_rules_80 htr hdd hT ih hw)
        · have hw := hw.2 c68
          refine J.iload 2 dX6_rules_71 rfl ?_
          refine kX6_303 rfl htr dX6_rules_73 (by omega) (Nat.le_of_ble_eq_true rfl) hw (fun r73 hw => ?_)
          refine J.iload_n 1 dX6_rules_76 rfl ?_
          refine J.icmp_ge 86 dX6_rules_77 (by decide) ⟨fun c77 => ?_, fun c77 => ?_⟩
          · have hw := hw.1 c77
            refine J.iincN 2 (K := (1 : Int32)) (lv' := fun y86 => [(4, .int y86), (0, .ref t), (3, .int x3)]) dX6_rules_86 rfl (by decide) (by decide) (fun _ => rfl) hw (fun y86 hw => ?_)
            refine J.goto 48 dX6_rules_89 (by decide) ?_
            exact J.pick [1, 2, 0] rfl (ih _ _ _ hw)
          · have hw := hw.2 c77
            exact J.pick [0, 2] rfl (rX6_rules_80 htr hdd hT ih hw)
def wX6_rules_16 (t : Nat) (a1 : Int32) (Q : Int32 → (Nat → Nat → Int32) → Prop) (V : Nat → Nat → Int32) (x2 : Int32) (s1 : Int32) : Prop :=
  ((0 < ((vset V t 0 s1) t 0) → wX6_rules_30 t a1 Q (vset V t 0 s1) x2) ∧ (¬ 0 < ((vset V t 0 s1) t 0) → ((¬ a1 = 0 → (∃ f9, wX6_rules_48 t a1 Q f9 (vset V t 0 s1) (-1 : Int32) (0 : Int32))) ∧ (a1 = 0 → wX6_rules_30 t a1 Q (vset V t 0 s1) x2))))
theorem rX6_rules_16 {G : jG} {l : Launch} {d c n : Nat} (htr : l.stackTraces = false) (hdd : 2 ≤ d) {sh : List jH} {t : Nat} (hT : jReg shX6 sh t) {R : Nat → Nat → Option Nat} {a1 : Int32} {Q : Int32 → (Nat → Nat → Int32) → Prop} {V : Nat → Nat → Int32} {x2 : Int32} {s1 : Int32} (hw : wX6_rules_16 t a1 Q V x2 s1) : J G l MX6_rules d c n 16 [(0, .ref t), (1, .int a1), (2, .int x2)] [.int s1, .ref t] (mk sh V R) (jWr sh R Q) jNo := by
  unfold wX6_rules_16 at hw
  refine pX6_54 rfl hT dX6_rules_16 ?_
  refine J.aload_n 0 dX6_rules_19 rfl ?_
  refine gX6_54 rfl hT dX6_rules_20 ?_
  refine J.if_gt 30 dX6_rules_23 (by decide) ⟨fun c23 => ?_, fun c23 => ?_⟩
  · have hw := hw.1 c23
    exact J.pick [0, 2] rfl (rX6_rules_30 htr hdd hT hw)
  · have hw := hw.2 c23
    refine J.iload_n 1 dX6_rules_26 rfl ?_
    refine J.if_ne 43 dX6_rules_27 (by decide) ⟨fun c27 => ?_, fun c27 => ?_⟩
    · have hw := hw.1 c27
      refine J.iconst (v := (-1 : Int32)) dX6_rules_43 (by decide) ?_
      refine J.istore_n (lv' := [(3, .int (-1 : Int32)), (0, .ref t), (1, .int a1), (2, .int x2)]) dX6_rules_44 (by decide) rfl ?_
      refine J.iconst (v := (0 : Int32)) dX6_rules_45 (by decide) ?_
      refine J.istore (lv' := [(4, .int (0 : Int32)), (3, .int (-1 : Int32)), (0, .ref t), (1, .int a1), (2, .int x2)]) dX6_rules_46 (by decide) rfl ?_
      obtain ⟨f9, hw⟩ := hw
      exact J.pick [2, 1, 0] rfl (rX6_rules_48 htr hdd hT f9 _ _ _ hw)
    · have hw := hw.2 c27
      exact J.pick [0, 2] rfl (rX6_rules_30 htr hdd hT hw)
def wX6_rules (t : Nat) (V : Nat → Nat → Int32) (a1 : Int32) (Q : Int32 → (Nat → Nat → Int32) → Prop) : Prop :=
  wX6_heard t V (fun r1 V1 => ((¬ r1 = (-1 : Int32) → wX6_rules_16 t a1 Q V1 r1 (0 : Int32)) ∧ (r1 = (-1 : Int32) → wX6_rules_16 t a1 Q V1 r1 (1 : Int32))))
theorem mX6_rules {G : jG} {l : Launch} (htr : l.stackTraces = false) {sh : List jH} {V : Nat → Nat → Int32} {R : Nat → Nat → Option Nat} {t : Nat} (hT : jReg shX6 sh t) {a1 : Int32} {Q : Int32 → (Nat → Nat → Int32) → Prop} (hw : wX6_rules t V a1 Q) : JM G l MX6_rules 2 0 0 [.ref t, .int a1] (mk sh V R) (jWr sh R Q) jNo := by
  refine JM.intro (by decide) rfl htr (Nat.le_of_ble_eq_true rfl) ?_
  show J G l MX6_rules 2 0 0 0 [(0, .ref t), (1, .int a1)] [] (mk sh V R) _ _
  unfold wX6_rules at hw
  refine J.aload_n 0 dX6_rules_0 rfl ?_
  refine kX6_399 rfl htr hT dX6_rules_1 (by omega) (Nat.le_of_ble_eq_true rfl) hw (fun r1 V1 hw => ?_)
  refine J.istore_n (lv' := [(2, .int r1), (0, .ref t), (1, .int a1)]) dX6_rules_4 (by decide) rfl ?_
  refine J.aload_n 1 dX6_rules_5 rfl ?_
  refine J.iload_n 0 dX6_rules_6 rfl ?_
  refine J.iconst (v := (-1 : Int32)) dX6_rules_7 (by decide) ?_
  refine J.icmp_ne 15 dX6_rules_8 (by decide) ⟨fun c8 => ?_, fun c8 => ?_⟩
  · have hw := hw.1 c8
    refine J.iconst (v := (0 : Int32)) dX6_rules_15 (by decide) ?_
    exact J.pick [1, 2, 0] rfl (rX6_rules_16 htr (Nat.le_refl _) hT hw)
  · have hw := hw.2 c8
    refine J.iconst (v := (1 : Int32)) dX6_rules_11 (by decide) ?_
    refine J.goto 16 dX6_rules_12 (by decide) ?_
    exact J.pick [1, 2, 0] rfl (rX6_rules_16 htr (Nat.le_refl _) hT hw)
-- VisitingHoursModel.seed(I)I
abbrev MX6_seed : jM := (yX6_seed, cX6_seed, 3, some .int, [])
def wX6_seed (t : Nat) (V : Nat → Nat → Int32) (a1 : Int32) (Q : Int32 → (Nat → Nat → Int32) → Prop) : Prop :=
  (∀ y12 : Int32, y12 = ((vset V t 0 (0 : Int32)) (t + 1) 10) → Q y12 (vset (vset V t 0 (0 : Int32)) (t + 1) 10 a1))
theorem mX6_seed {G : jG} {l : Launch} (htr : l.stackTraces = false) {sh : List jH} {V : Nat → Nat → Int32} {R : Nat → Nat → Option Nat} {t : Nat} (hT : jReg shX6 sh t) {a1 : Int32} {Q : Int32 → (Nat → Nat → Int32) → Prop} (hw : wX6_seed t V a1 Q) : JM G l MX6_seed 0 0 0 [.ref t, .int a1] (mk sh V R) (jWr sh R Q) jNo := by
  refine JM.intro (by decide) rfl htr (Nat.le_of_ble_eq_true rfl) ?_
  show J G l MX6_seed 0 0 0 0 [(0, .ref t), (1, .int a1)] [] (mk sh V R) _ _
  unfold wX6_seed at hw
  refine J.aload_n 0 dX6_seed_0 rfl ?_
  refine J.iconst (v := (0 : Int32)) dX6_seed_1 (by decide) ?_
  refine pX6_54 rfl hT dX6_seed_2 ?_
  refine J.aload_n 0 dX6_seed_5 rfl ?_
  refine gX6_7 rfl hT dX6_seed_6 ?_
  refine J.bipush (v := (10 : Int32)) dX6_seed_9 (by decide) ?_
  refine JV.ialdK 10 dX6_seed_11 (hT.ge 1) (hT.at 1 rfl) rfl (by decide) (by decide) ?_
  refine J.nm hw (fun y12 hw => ?_)
  refine J.istore_n (lv' := [(2, .int y12), (0, .ref t), (1, .int a1)]) dX6_seed_12 (by decide) rfl ?_
  refine J.aload_n 1 dX6_seed_13 rfl ?_
  refine gX6_7 rfl hT dX6_seed_14 ?_
  refine J.bipush (v := (10 : Int32)) dX6_seed_17 (by decide) ?_
  refine J.iload_n 2 dX6_seed_19 rfl ?_
  refine JV.iastK 10 dX6_seed_20 (hT.ge 1) (hT.at 1 rfl) rfl (by decide) (by decide) ?_
  refine J.iload_n 0 dX6_seed_21 rfl ?_
  exact J.iret rfl dX6_seed_22 ⟨_, rfl, _, rfl, hw⟩
-- VisitingHoursModel.send()I
abbrev MX6_send : jM := (yX6_send, cX6_send, 7, some .int, [])
def wX6_send_55 (t : Nat) (Q : Int32 → (Nat → Nat → Int32) → Prop) (K37 : (Nat → Nat → Int32) → Int32 → Int32 → Int32 → Int32 → Prop) : Nat → (Nat → Nat → Int32) → Int32 → Int32 → Int32 → Int32 → Int32 → Int32 → Prop
  | 0, _, _, _, _, _, _, _ => False
  | f + 1, V, x1, x2, x3, x4, x5, x6 =>
    (((4096 : Int32) ≤ x6 → wX6_greater x5 (x1 - x5) (fun r105 => ((r105 < x3 → wX6_greater x5 (x1 - x5) (fun r121 => (∀ y128 : Int32, y128 = x4 + (1 : Int32) → K37 V x1 x4 r121 y128))) ∧ (¬ r105 < x3 → (∀ y128 : Int32, y128 = x4 + (1 : Int32) → K37 V x1 x2 x3 y128))))) ∧ (¬ (4096 : Int32) ≤ x6 → (vp_in x6 4096 ∧ (((V (t + 12) x6.toNatClampNeg) = 0 → (∀ y91 : Int32, y91 = (x5 + (0 : Int32)) → (∀ y93 : Int32, y93 = x6 + (1 : Int32) → wX6_send_55 t Q K37 f V x1 x2 x3 x4 y91 y93))) ∧ (¬ (V (t + 12) x6.toNatClampNeg) = 0 → wX6_isLetBy x6 x4 (fun r79 => ((r79 = 0 → (∀ y91 : Int32, y91 = (x5 + (0 : Int32)) → (∀ y93 : Int32, y93 = x6 + (1 : Int32) → wX6_send_55 t Q K37 f V x1 x2 x3 x4 y91 y93))) ∧ (¬ r79 = 0 → (∀ y91 : Int32, y91 = (x5 + (1 : Int32)) → (∀ y93 : Int32, y93 = x6 + (1 : Int32) → wX6_send_55 t Q K37 f V x1 x2 x3 x4 y91 y93))))))))))
theorem rX6_send_55 {G : jG} {l : Launch} {d c n : Nat} (htr : l.stackTraces = false) (hdd : 2 ≤ d) {sh : List jH} {t : Nat} (hT : jReg shX6 sh t) {R : Nat → Nat → Option Nat} {Q : Int32 → (Nat → Nat → Int32) → Prop} {K37 : (Nat → Nat → Int32) → Int32 → Int32 → Int32 → Int32 → Prop} (hK37 : ∀ (V : Nat → Nat → Int32) (x1 : Int32) (x2 : Int32) (x3 : Int32) (x4 : Int32), K37 V x1 x2 x3 x4 → J G l MX6_send d c n 37 [(0, .ref t), (1, .int x1), (2, .int x2), (3, .int x3), (4, .int x4)] [] (mk sh V R) (jWr sh R Q) jNo) : ∀ (f : Nat) (V : Nat → Nat → Int32) (x1 : Int32) (x2 : Int32) (x3 : Int32) (x4 : Int32) (x5 : Int32) (x6 : Int32), wX6_send_55 t Q K37 f V x1 x2 x3 x4 x5 x6 → J G l MX6_send d c n 55 [(0, .ref t), (1, .int x1), (2, .int x2), (3, .int x3), (4, .int x4), (5, .int x5), (6, .int x6)] [] (mk sh V R) (jWr sh R Q) jNo := by
  intro f
  induction f with
  | zero =>
    intro V x1 x2 x3 x4 x5 x6 hw
    rw [wX6_send_55] at hw
    exact hw.elim
  | succ f ih =>
    intro V x1 x2 x3 x4 x5 x6 hw
    rw [wX6_send_55] at hw
    refine J.iload 6 dX6_send_55 rfl ?_
    refine J.sipush (v := (4096 : Int32)) dX6_send_57 (by decide) ?_
    refine J.icmp_ge 99 dX6_send_60 (by decide) ⟨fun c60 => ?_, fun c60 => ?_⟩
    · have hw := hw.1 c60
      refine J.iload 5 dX6_send_99 rfl ?_
      refine J.iload_n 1 dX6_send_101 rfl ?_
      refine J.iload 5 dX6_send_102 rfl ?_
      refine J.isub dX6_send_104 ?_
      refine kX6_277 rfl htr dX6_send_105 (by omega) (Nat.le_of_ble_eq_true rfl) hw (fun r105 hw => ?_)
      refine J.iload_n 3 dX6_send_108 rfl ?_
      refine J.icmp_lt 115 dX6_send_109 (by decide) ⟨fun c109 => ?_, fun c109 => ?_⟩
      · have hw := hw.1 c109
        refine J.iload 5 dX6_send_115 rfl ?_
        refine J.iload_n 1 dX6_send_117 rfl ?_
        refine J.iload 5 dX6_send_118 rfl ?_
        refine J.isub dX6_send_120 ?_
        refine kX6_277 rfl htr dX6_send_121 (by omega) (Nat.le_of_ble_eq_true rfl) hw (fun r121 hw => ?_)
        refine J.istore_n (lv' := [(3, .int r121), (0, .ref t), (1, .int x1), (2, .int x2), (4, .int x4), (5, .int x5), (6, .int x6)]) dX6_send_124 (by decide) rfl ?_
        refine J.iload 4 dX6_send_125 rfl ?_
        refine J.istore_n (lv' := [(2, .int x4), (3, .int r121), (0, .ref t), (1, .int x1), (4, .int x4), (5, .int x5), (6, .int x6)]) dX6_send_127 (by decide) rfl ?_
        refine J.iincN 4 (K := (1 : Int32)) (lv' := fun y128 => [(4, .int y128), (2, .int x4), (3, .int r121), (0, .ref t), (1, .int x1), (5, .int x5), (6, .int x6)]) dX6_send_128 rfl (by decide) (by decide) (fun _ => rfl) hw (fun y128 hw => ?_)
        refine J.goto 37 dX6_send_131 (by decide) ?_
        exact J.pick [3, 4, 1, 2, 0] rfl (hK37 _ _ _ _ _ hw)
      · have hw := hw.2 c109
        refine J.goto 128 dX6_send_112 (by decide) ?_
        refine J.iincN 4 (K := (1 : Int32)) (lv' := fun y128 => [(4, .int y128), (0, .ref t), (1, .int x1), (2, .int x2), (3, .int x3), (5, .int x5), (6, .int x6)]) dX6_send_128 rfl (by decide) (by decide) (fun _ => rfl) hw (fun y128 hw => ?_)
        refine J.goto 37 dX6_send_131 (by decide) ?_
        exact J.pick [1, 2, 3, 4, 0] rfl (hK37 _ _ _ _ _ hw)
    · have hw := hw.2 c60
      refine J.iload 5 dX6_send_63 rfl ?_
      refine J.aload_n 0 dX6_send_65 rfl ?_
      refine gX6_47 rfl hT dX6_send_66 ?_
      refine J.iload 6 dX6_send_69 rfl ?_
      obtain ⟨h71, hw⟩ := hw
      refine JV.zald dX6_send_71 (hT.ge 12) (hT.at 12 rfl) h71 ?_
      refine J.if_eq 89 dX6_send_72 (by decide) ⟨fun c72 => ?_, fun c72 => ?_⟩
      · have hw := hw.1 c72
        refine J.iconst (v := (0 : Int32)) dX6_send_89 (by decide) ?_
        refine J.iadd dX6_send_90 ?_
        refine J.nm hw (fun y91 hw => ?_)
        refine J.istore (lv' := [(5, .int y91), (0, .ref t), (1, .int x1), (2, .int x2), (3, .int x3), (4, .int x4), (6, .int x6)]) dX6_send_91 (by decide) rfl ?_
        refine J.iincN 6 (K := (1 : Int32)) (lv' := fun y93 => [(6, .int y93), (5, .int y91), (0, .ref t), (1, .int x1), (2, .int x2), (3, .int x3), (4, .int x4)]) dX6_send_93 rfl (by decide) (by decide) (fun _ => rfl) hw (fun y93 hw => ?_)
        refine J.goto 55 dX6_send_96 (by decide) ?_
        exact J.pick [2, 3, 4, 5, 6, 1, 0] rfl (ih _ _ _ _ _ _ _ hw)
      · have hw := hw.2 c72
        refine J.iload 6 dX6_send_75 rfl ?_
        refine J.iload 4 dX6_send_77 rfl ?_
        refine kX6_396 rfl htr dX6_send_79 (by omega) (Nat.le_of_ble_eq_true rfl) hw (fun r79 hw => ?_)
        refine J.if_eq 89 dX6_send_82 (by decide) ⟨fun c82 => ?_, fun c82 => ?_⟩
        · have hw := hw.1 c82
          refine J.iconst (v := (0 : Int32)) dX6_send_89 (by decide) ?_
          refine J.iadd dX6_send_90 ?_
          refine J.nm hw (fun y91 hw => ?_)
          refine J.istore (lv' := [(5, .int y91), (0, .ref t), (1, .int x1), (2, .int x2), (3, .int x3), (4, .int x4), (6, .int x6)]) dX6_send_91 (by decide) rfl ?_
          refine J.iincN 6 (K := (1 : Int32)) (lv' := fun y93 => [(6, .int y93), (5, .int y91), (0, .ref t), (1, .int x1), (2, .int x2), (3, .int x3), (4, .int x4)]) dX6_send_93 rfl (by decide) (by decide) (fun _ => rfl) hw (fun y93 hw => ?_)
          refine J.goto 55 dX6_send_96 (by decide) ?_
          exact J.pick [2, 3, 4, 5, 6, 1, 0] rfl (ih _ _ _ _ _ _ _ hw)
        · have hw := hw.2 c82
          refine J.iconst (v := (1 : Int32)) dX6_send_85 (by decide) ?_
          refine J.goto 90 dX6_send_86 (by decide) ?_
          refine J.iadd dX6_send_90 ?_
          refine J.nm hw (fun y91 hw => ?_)
          refine J.istore (lv' := [(5, .int y91), (0, .ref t), (1, .int x1), (2, .int x2), (3, .int x3), (4, .int x4), (6, .int x6)]) dX6_send_91 (by decide) rfl ?_
          refine J.iincN 6 (K := (1 : Int32)) (lv' := fun y93 => [(6, .int y93), (5, .int y91), (0, .ref t), (1, .int x1), (2, .int x2), (3, .int x3), (4, .int x4)]) dX6_send_93 rfl (by decide) (by decide) (fun _ => rfl) hw (fun y93 hw => ?_)
          refine J.goto 55 dX6_send_96 (by decide) ?_
          exact J.pick [2, 3, 4, 5, 6, 1, 0] rfl (ih _ _ _ _ _ _ _ hw)
def wX6_send_37 (t : Nat) (Q : Int32 → (Nat → Nat → Int32) → Prop) : Nat → (Nat → Nat → Int32) → Int32 → Int32 → Int32 → Int32 → Prop
  | 0, _, _, _, _, _ => False
  | f + 1, V, x1, x2, x3, x4 =>
    (((64 : Int32) ≤ x4 → Q x2 V) ∧ (¬ (64 : Int32) ≤ x4 → ((x1 ≤ (1 : Int32) → Q x2 V) ∧ (¬ x1 ≤ (1 : Int32) → (∃ f9, wX6_send_55 t Q (fun V x1 x2 x3 x4 => wX6_send_37 t Q f V x1 x2 x3 x4) f9 V x1 x2 x3 x4 (0 : Int32) (0 : Int32))))))
theorem rX6_send_37 {G : jG} {l : Launch} {d c n : Nat} (htr : l.stackTraces = false) (hdd : 2 ≤ d) {sh : List jH} {t : Nat} (hT : jReg shX6 sh t) {R : Nat → Nat → Option Nat} {Q : Int32 → (Nat → Nat → Int32) → Prop} : ∀ (f : Nat) (V : Nat → Nat → Int32) (x1 : Int32) (x2 : Int32) (x3 : Int32) (x4 : Int32), wX6_send_37 t Q f V x1 x2 x3 x4 → J G l MX6_send d c n 37 [(0, .ref t), (1, .int x1), (2, .int x2), (3, .int x3), (4, .int x4)] [] (mk sh V R) (jWr sh R Q) jNo := by
  intro f
  induction f with
  | zero =>
    intro V x1 x2 x3 x4 hw
    rw [wX6_send_37] at hw
    exact hw.elim
  | succ f ih =>
    intro V x1 x2 x3 x4 hw
    rw [wX6_send_37] at hw
    refine J.iload 4 dX6_send_37 rfl ?_
    refine J.bipush (v := (64 : Int32)) dX6_send_39 (by decide) ?_
    refine J.icmp_ge 134 dX6_send_41 (by decide) ⟨fun c41 => ?_, fun c41 => ?_⟩
    · have hw := hw.1 c41
      refine J.iload_n 2 dX6_send_134 rfl ?_
      exact J.iret rfl dX6_send_135 ⟨_, rfl, _, rfl, hw⟩
    · have hw := hw.2 c41
      refine J.iload_n 1 dX6_send_44 rfl ?_
      refine J.iconst (v := (1 : Int32)) dX6_send_45 (by decide) ?_
      refine J.icmp_le 134 dX6_send_46 (by decide) ⟨fun c46 => ?_, fun c46 => ?_⟩
      · have hw := hw.1 c46
        refine J.iload_n 2 dX6_send_134 rfl ?_
        exact J.iret rfl dX6_send_135 ⟨_, rfl, _, rfl, hw⟩
      · have hw := hw.2 c46
        refine J.iconst (v := (0 : Int32)) dX6_send_49 (by decide) ?_
        refine J.istore (lv' := [(5, .int (0 : Int32)), (0, .ref t), (1, .int x1), (2, .int x2), (3, .int x3), (4, .int x4)]) dX6_send_50 (by decide) rfl ?_
        refine J.iconst (v := (0 : Int32)) dX6_send_52 (by decide) ?_
        refine J.istore (lv' := [(6, .int (0 : Int32)), (5, .int (0 : Int32)), (0, .ref t), (1, .int x1), (2, .int x2), (3, .int x3), (4, .int x4)]) dX6_send_53 (by decide) rfl ?_
        obtain ⟨f9, hw⟩ := hw
        exact J.pick [2, 3, 4, 5, 6, 1, 0] rfl (rX6_send_55 htr hdd hT ih f9 _ _ _ _ _ _ _ hw)
def wX6_send_16 (t : Nat) (Q : Int32 → (Nat → Nat → Int32) → Prop) (V : Nat → Nat → Int32) (x1 : Int32) (s1 : Int32) : Prop :=
  ((((vset V t 0 s1) t 0) ≤ 0 → (∃ f9, wX6_send_37 t Q f9 (vset V t 0 s1) x1 (-1 : Int32) (2000000000 : Int32) (0 : Int32))) ∧ (¬ ((vset V t 0 s1) t 0) ≤ 0 → Q (0 : Int32) (vset V t 0 s1)))
theorem rX6_send_16 {G : jG} {l : Launch} {d c n : Nat} (htr : l.stackTraces = false) (hdd : 2 ≤ d) {sh : List jH} {t : Nat} (hT : jReg shX6 sh t) {R : Nat → Nat → Option Nat} {Q : Int32 → (Nat → Nat → Int32) → Prop} {V : Nat → Nat → Int32} {x1 : Int32} {s1 : Int32} (hw : wX6_send_16 t Q V x1 s1) : J G l MX6_send d c n 16 [(0, .ref t), (1, .int x1)] [.int s1, .ref t] (mk sh V R) (jWr sh R Q) jNo := by
  unfold wX6_send_16 at hw
  refine pX6_54 rfl hT dX6_send_16 ?_
  refine J.aload_n 0 dX6_send_19 rfl ?_
  refine gX6_54 rfl hT dX6_send_20 ?_
  refine J.if_le 28 dX6_send_23 (by decide) ⟨fun c23 => ?_, fun c23 => ?_⟩
  · have hw := hw.1 c23
    refine J.iconst (v := (-1 : Int32)) dX6_send_28 (by decide) ?_
    refine J.istore_n (lv' := [(2, .int (-1 : Int32)), (0, .ref t), (1, .int x1)]) dX6_send_29 (by decide) rfl ?_
    refine J.ldcw (v := (2000000000 : Int32)) dX6_send_30 q2663 ?_
    refine J.istore_n (lv' := [(3, .int (2000000000 : Int32)), (2, .int (-1 : Int32)), (0, .ref t), (1, .int x1)]) dX6_send_33 (by decide) rfl ?_
    refine J.iconst (v := (0 : Int32)) dX6_send_34 (by decide) ?_
    refine J.istore (lv' := [(4, .int (0 : Int32)), (3, .int (2000000000 : Int32)), (2, .int (-1 : Int32)), (0, .ref t), (1, .int x1)]) dX6_send_35 (by decide) rfl ?_
    obtain ⟨f9, hw⟩ := hw
    exact J.pick [3, 4, 2, 1, 0] rfl (rX6_send_37 htr hdd hT f9 _ _ _ _ _ hw)
  · have hw := hw.2 c23
    refine J.iconst (v := (0 : Int32)) dX6_send_26 (by decide) ?_
    exact J.iret rfl dX6_send_27 ⟨_, rfl, _, rfl, hw⟩
def wX6_send (t : Nat) (V : Nat → Nat → Int32) (Q : Int32 → (Nat → Nat → Int32) → Prop) : Prop :=
  wX6_heard t V (fun r1 V1 => ((¬ r1 = (-1 : Int32) → wX6_send_16 t Q V1 r1 (0 : Int32)) ∧ (r1 = (-1 : Int32) → wX6_send_16 t Q V1 r1 (1 : Int32))))
theorem mX6_send {G : jG} {l : Launch} (htr : l.stackTraces = false) {sh : List jH} {V : Nat → Nat → Int32} {R : Nat → Nat → Option Nat} {t : Nat} (hT : jReg shX6 sh t) {Q : Int32 → (Nat → Nat → Int32) → Prop} (hw : wX6_send t V Q) : JM G l MX6_send 2 0 0 [.ref t] (mk sh V R) (jWr sh R Q) jNo := by
  refine JM.intro (by decide) rfl htr (Nat.le_of_ble_eq_true rfl) ?_
  show J G l MX6_send 2 0 0 0 [(0, .ref t)] [] (mk sh V R) _ _
  unfold wX6_send at hw
  refine J.aload_n 0 dX6_send_0 rfl ?_
  refine kX6_399 rfl htr hT dX6_send_1 (by omega) (Nat.le_of_ble_eq_true rfl) hw (fun r1 V1 hw => ?_)
  refine J.istore_n (lv' := [(1, .int r1), (0, .ref t)]) dX6_send_4 (by decide) rfl ?_
  refine J.aload_n 1 dX6_send_5 rfl ?_
  refine J.iload_n 0 dX6_send_6 rfl ?_
  refine J.iconst (v := (-1 : Int32)) dX6_send_7 (by decide) ?_
  refine J.icmp_ne 15 dX6_send_8 (by decide) ⟨fun c8 => ?_, fun c8 => ?_⟩
  · have hw := hw.1 c8
    refine J.iconst (v := (0 : Int32)) dX6_send_15 (by decide) ?_
    exact J.pick [1, 0] rfl (rX6_send_16 htr (Nat.le_refl _) hT hw)
  · have hw := hw.2 c8
    refine J.iconst (v := (1 : Int32)) dX6_send_11 (by decide) ?_
    refine J.goto 16 dX6_send_12 (by decide) ?_
    exact J.pick [1, 0] rfl (rX6_send_16 htr (Nat.le_refl _) hT hw)
-- VisitingHoursModel.strike(II)I
abbrev MX6_strike : jM := (yX6_strike, cX6_strike, 3, some .int, [])
def wX6_strike_49 (t : Nat) (a1 : Int32) (a2 : Int32) (Q : Int32 → (Nat → Nat → Int32) → Prop) (V : Nat → Nat → Int32) (s1 : Int32) : Prop :=
  ((((vset V t 0 s1) t 0) ≤ 0 → wX6_sets t (vset V t 0 s1) (((195 : Int32) + ((8 : Int32) * a1)) + a2) (-1 : Int32) (fun r75 V75 => Q r75 V75)) ∧ (¬ ((vset V t 0 s1) t 0) ≤ 0 → Q (0 : Int32) (vset V t 0 s1)))
theorem rX6_strike_49 {G : jG} {l : Launch} {d c n : Nat} (htr : l.stackTraces = false) (hdd : 2 ≤ d) {sh : List jH} {t : Nat} (hT : jReg shX6 sh t) {R : Nat → Nat → Option Nat} {a1 : Int32} {a2 : Int32} {Q : Int32 → (Nat → Nat → Int32) → Prop} {V : Nat → Nat → Int32} {s1 : Int32} (hw : wX6_strike_49 t a1 a2 Q V s1) : J G l MX6_strike d c n 49 [(0, .ref t), (1, .int a1), (2, .int a2)] [.int s1, .ref t] (mk sh V R) (jWr sh R Q) jNo := by
  unfold wX6_strike_49 at hw
  refine pX6_54 rfl hT dX6_strike_49 ?_
  refine J.aload_n 0 dX6_strike_52 rfl ?_
  refine gX6_54 rfl hT dX6_strike_53 ?_
  refine J.if_le 63 dX6_strike_56 (by decide) ⟨fun c56 => ?_, fun c56 => ?_⟩
  · have hw := hw.1 c56
    refine J.aload_n 0 dX6_strike_63 rfl ?_
    refine J.sipush (v := (195 : Int32)) dX6_strike_64 (by decide) ?_
    refine J.bipush (v := (8 : Int32)) dX6_strike_67 (by decide) ?_
    refine J.iload_n 1 dX6_strike_69 rfl ?_
    refine J.imul dX6_strike_70 ?_
    refine J.iadd dX6_strike_71 ?_
    refine J.iload_n 2 dX6_strike_72 rfl ?_
    refine J.iadd dX6_strike_73 ?_
    refine J.iconst (v := (-1 : Int32)) dX6_strike_74 (by decide) ?_
    refine kX6_344 rfl htr hT dX6_strike_75 (by omega) (Nat.le_of_ble_eq_true rfl) hw (fun r75 V75 hw => ?_)
    exact J.iret rfl dX6_strike_78 ⟨_, rfl, _, rfl, hw⟩
  · have hw := hw.2 c56
    refine J.iconst (v := (0 : Int32)) dX6_strike_59 (by decide) ?_
    refine J.goto 78 dX6_strike_60 (by decide) ?_
    exact J.iret rfl dX6_strike_78 ⟨_, rfl, _, rfl, hw⟩
def wX6_strike_21 (t : Nat) (a1 : Int32) (a2 : Int32) (Q : Int32 → (Nat → Nat → Int32) → Prop) (V : Nat → Nat → Int32) (s1 : Int32) : Prop :=
  ((((vset V t 0 s1) t 0) ≤ 0 → wX6_bookedIn t (vset V t 0 s1) a1 a2 (fun r37 => ((¬ r37 = (-1 : Int32) → wX6_strike_49 t a1 a2 Q (vset V t 0 s1) (0 : Int32)) ∧ (r37 = (-1 : Int32) → wX6_strike_49 t a1 a2 Q (vset V t 0 s1) (2 : Int32))))) ∧ (¬ ((vset V t 0 s1) t 0) ≤ 0 → Q (0 : Int32) (vset V t 0 s1)))
theorem rX6_strike_21 {G : jG} {l : Launch} {d c n : Nat} (htr : l.stackTraces = false) (hdd : 2 ≤ d) {sh : List jH} {t : Nat} (hT : jReg shX6 sh t) {R : Nat → Nat → Option Nat} {a1 : Int32} {a2 : Int32} {Q : Int32 → (Nat → Nat → Int32) → Prop} {V : Nat → Nat → Int32} {s1 : Int32} (hw : wX6_strike_21 t a1 a2 Q V s1) : J G l MX6_strike d c n 21 [(0, .ref t), (1, .int a1), (2, .int a2)] [.int s1, .ref t] (mk sh V R) (jWr sh R Q) jNo := by
  unfold wX6_strike_21 at hw
  refine pX6_54 rfl hT dX6_strike_21 ?_
  refine J.aload_n 0 dX6_strike_24 rfl ?_
  refine gX6_54 rfl hT dX6_strike_25 ?_
  refine J.if_le 33 dX6_strike_28 (by decide) ⟨fun c28 => ?_, fun c28 => ?_⟩
  · have hw := hw.1 c28
    refine J.aload_n 0 dX6_strike_33 rfl ?_
    refine J.aload_n 0 dX6_strike_34 rfl ?_
    refine J.iload_n 1 dX6_strike_35 rfl ?_
    refine J.iload_n 2 dX6_strike_36 rfl ?_
    refine kX6_271 rfl htr hT dX6_strike_37 (by omega) (Nat.le_of_ble_eq_true rfl) hw (fun r37 hw => ?_)
    refine J.iconst (v := (-1 : Int32)) dX6_strike_40 (by decide) ?_
    refine J.icmp_ne 48 dX6_strike_41 (by decide) ⟨fun c41 => ?_, fun c41 => ?_⟩
    · have hw := hw.1 c41
      refine J.iconst (v := (0 : Int32)) dX6_strike_48 (by decide) ?_
      exact (rX6_strike_49 htr hdd hT hw)
    · have hw := hw.2 c41
      refine J.iconst (v := (2 : Int32)) dX6_strike_44 (by decide) ?_
      refine J.goto 49 dX6_strike_45 (by decide) ?_
      exact (rX6_strike_49 htr hdd hT hw)
  · have hw := hw.2 c28
    refine J.iconst (v := (0 : Int32)) dX6_strike_31 (by decide) ?_
    exact J.iret rfl dX6_strike_32 ⟨_, rfl, _, rfl, hw⟩
def wX6_strike_16 (t : Nat) (a1 : Int32) (a2 : Int32) (Q : Int32 → (Nat → Nat → Int32) → Prop) (V : Nat → Nat → Int32) : Prop :=
  wX6_strike_21 t a1 a2 Q V (1 : Int32)
theorem rX6_strike_16 {G : jG} {l : Launch} {d c n : Nat} (htr : l.stackTraces = false) (hdd : 2 ≤ d) {sh : List jH} {t : Nat} (hT : jReg shX6 sh t) {R : Nat → Nat → Option Nat} {a1 : Int32} {a2 : Int32} {Q : Int32 → (Nat → Nat → Int32) → Prop} {V : Nat → Nat → Int32} (hw : wX6_strike_16 t a1 a2 Q V) : J G l MX6_strike d c n 16 [(0, .ref t), (1, .int a1), (2, .int a2)] [.ref t] (mk sh V R) (jWr sh R Q) jNo := by
  unfold wX6_strike_16 at hw
  refine J.iconst (v := (1 : Int32)) dX6_strike_16 (by decide) ?_
  refine J.goto 21 dX6_strike_17 (by decide) ?_
  exact (rX6_strike_21 htr hdd hT hw)
def wX6_strike (t : Nat) (V : Nat → Nat → Int32) (a1 : Int32) (a2 : Int32) (Q : Int32 → (Nat → Nat → Int32) → Prop) : Prop :=
  wX6_isHost t V a1 (fun r3 => ((r3 = 0 → wX6_strike_16 t a1 a2 Q V) ∧ (¬ r3 = 0 → wX6_isQuarter a2 (fun r10 => ((¬ r10 = 0 → wX6_strike_21 t a1 a2 Q V (0 : Int32)) ∧ (r10 = 0 → wX6_strike_16 t a1 a2 Q V))))))
theorem mX6_strike {G : jG} {l : Launch} (htr : l.stackTraces = false) {sh : List jH} {V : Nat → Nat → Int32} {R : Nat → Nat → Option Nat} {t : Nat} (hT : jReg shX6 sh t) {a1 : Int32} {a2 : Int32} {Q : Int32 → (Nat → Nat → Int32) → Prop} (hw : wX6_strike t V a1 a2 Q) : JM G l MX6_strike 2 0 0 [.ref t, .int a1, .int a2] (mk sh V R) (jWr sh R Q) jNo := by
  refine JM.intro (by decide) rfl htr (Nat.le_of_ble_eq_true rfl) ?_
  show J G l MX6_strike 2 0 0 0 [(0, .ref t), (1, .int a1), (2, .int a2)] [] (mk sh V R) _ _
  unfold wX6_strike at hw
  refine J.aload_n 0 dX6_strike_0 rfl ?_
  refine J.aload_n 0 dX6_strike_1 rfl ?_
  refine J.iload_n 1 dX6_strike_2 rfl ?_
  refine kX6_310 rfl htr hT dX6_strike_3 (by omega) (Nat.le_of_ble_eq_true rfl) hw (fun r3 hw => ?_)
  refine J.if_eq 16 dX6_strike_6 (by decide) ⟨fun c6 => ?_, fun c6 => ?_⟩
  · have hw := hw.1 c6
    exact (rX6_strike_16 htr (Nat.le_refl _) hT hw)
  · have hw := hw.2 c6
    refine J.iload_n 2 dX6_strike_9 rfl ?_
    refine kX6_331 rfl htr dX6_strike_10 (by omega) (Nat.le_of_ble_eq_true rfl) hw (fun r10 hw => ?_)
    refine J.if_ne 20 dX6_strike_13 (by decide) ⟨fun c13 => ?_, fun c13 => ?_⟩
    · have hw := hw.1 c13
      refine J.iconst (v := (0 : Int32)) dX6_strike_20 (by decide) ?_
      exact (rX6_strike_21 htr (Nat.le_refl _) hT hw)
    · have hw := hw.2 c13
      exact (rX6_strike_16 htr (Nat.le_refl _) hT hw)
-- VisitingHoursModel.thrown()I
abbrev MX6_thrown : jM := (yX6_thrown, cX6_thrown, 1, some .int, [])
def wX6_thrown (t : Nat) (V : Nat → Nat → Int32) (Q : Int32 → Prop) : Prop :=
  Q (V t 0)
theorem mX6_thrown {G : jG} {l : Launch} (htr : l.stackTraces = false) {sh : List jH} {V : Nat → Nat → Int32} {R : Nat → Nat → Option Nat} {t : Nat} (hT : jReg shX6 sh t) {Q : Int32 → Prop} (hw : wX6_thrown t V Q) : JM G l MX6_thrown 0 0 0 [.ref t] (mk sh V R) (jRd (mk sh V R) Q) jNo := by
  refine JM.intro (by decide) rfl htr (Nat.le_of_ble_eq_true rfl) ?_
  show J G l MX6_thrown 0 0 0 0 [(0, .ref t)] [] (mk sh V R) _ _
  unfold wX6_thrown at hw
  refine J.aload_n 0 dX6_thrown_0 rfl ?_
  refine gX6_54 rfl hT dX6_thrown_1 ?_
  exact J.iret rfl dX6_thrown_4 ⟨rfl, _, rfl, hw⟩
theorem kX6_415 {G : jG} {l : Launch} {M : jM} {d c n pc : Nat} {lv : List (Nat × Value)} {rest : List Value} {post : Option Value → List jC → Prop} {xp : String → List jC → Prop} (hM : M.1.cls = RX6) (htr : l.stackTraces = false) {sh : List jH} {V : Nat → Nat → Int32} {R : Nat → Nat → Option Nat} {t : Nat} (hT : jReg shX6 sh t) {a1 : Int32} {a2 : Int32} {Q : Int32 → Prop} (hd : decode M.2.1 pc = .ok (.invokevirtual 415, 3)) (hdd : 1 + 1 ≤ d) (hw8 : (rest.map fun v => v.category).sum ≤ 8) (hw : wX6_hasBy t V a1 a2 Q) (kk : ∀ r, Q r → J G l M d c n (pc + 3) lv (.int r :: rest) (mk sh V R) post xp) : J G l M d c n pc lv (.int a2 :: .int a1 :: .ref t :: rest) (mk sh V R) post xp :=
  J.callV (As := [.int a1, .int a2]) (hcw := by rw [hM]; exact lw_V q2700 q2702 qs138 q152 q2703) (mX6_hasBy htr hT hw) hd rfl ⟨5, _, _, mk_at (hT.at 0 rfl), rfl, rfl, fun _ => rfl⟩ ⟨rfl, by decide, by decide, by show _ = some 2; decide +kernel⟩ hw8 ⟨hdd, by decide⟩ jcc0 (fun r9 g9 h9 => by obtain ⟨rfl, r, rfl, h⟩ := h9; exact kk r h) jNo.x
-- VisitingHoursModel.treaty(II)I
abbrev MX6_treaty : jM := (yX6_treaty, cX6_treaty, 8, some .int, [])
def wX6_treaty_51 (t : Nat) (a1 : Int32) (a2 : Int32) (Q : Int32 → (Nat → Nat → Int32) → Prop) : Nat → (Nat → Nat → Int32) → Int32 → Int32 → Int32 → Prop
  | 0, _, _, _, _ => False
  | f + 1, V, x3, x4, x5 =>
    (((8 : Int32) < x5 → Q x3 V) ∧ (¬ (8 : Int32) < x5 → wX6_hasBy t V a1 x5 (fun r62 => (∀ y67 : Int32, y67 = (r62 - (2 : Int32)) → wX6_hasBy t V a2 ((8 : Int32) - x5) (fun r76 => (∀ y81 : Int32, y81 = (r76 - (2 : Int32)) → ((y67 < 0 → (∀ y116 : Int32, y116 = x5 + (1 : Int32) → wX6_treaty_51 t a1 a2 Q f V x3 x4 y116)) ∧ (¬ y67 < 0 → ((y81 < 0 → (∀ y116 : Int32, y116 = x5 + (1 : Int32) → wX6_treaty_51 t a1 a2 Q f V x3 x4 y116)) ∧ (¬ y81 < 0 → ((x4 < (y67 * y81) → (∀ y111 : Int32, y111 = (y67 * y81) → (∀ y116 : Int32, y116 = x5 + (1 : Int32) → wX6_treaty_51 t a1 a2 Q f V x5 y111 y116))) ∧ (¬ x4 < (y67 * y81) → (∀ y116 : Int32, y116 = x5 + (1 : Int32) → wX6_treaty_51 t a1 a2 Q f V x3 x4 y116)))))))))))))
theorem rX6_treaty_51 {G : jG} {l : Launch} {d c n : Nat} (htr : l.stackTraces = false) (hdd : 2 ≤ d) {sh : List jH} {t : Nat} (hT : jReg shX6 sh t) {R : Nat → Nat → Option Nat} {a1 : Int32} {a2 : Int32} {Q : Int32 → (Nat → Nat → Int32) → Prop} : ∀ (f : Nat) (V : Nat → Nat → Int32) (x3 : Int32) (x4 : Int32) (x5 : Int32), wX6_treaty_51 t a1 a2 Q f V x3 x4 x5 → J G l MX6_treaty d c n 51 [(0, .ref t), (1, .int a1), (2, .int a2), (3, .int x3), (4, .int x4), (5, .int x5)] [] (mk sh V R) (jWr sh R Q) jNo := by
  intro f
  induction f with
  | zero =>
    intro V x3 x4 x5 hw
    rw [wX6_treaty_51] at hw
    exact hw.elim
  | succ f ih =>
    intro V x3 x4 x5 hw
    rw [wX6_treaty_51] at hw
    refine J.iload 5 dX6_treaty_51 rfl ?_
    refine J.bipush (v := (8 : Int32)) dX6_treaty_53 (by decide) ?_
    refine J.icmp_gt 122 dX6_treaty_55 (by decide) ⟨fun c55 => ?_, fun c55 => ?_⟩
    · have hw := hw.1 c55
      refine J.iload_n 3 dX6_treaty_122 rfl ?_
      exact J.iret rfl dX6_treaty_123 ⟨_, rfl, _, rfl, hw⟩
    · have hw := hw.2 c55
      refine J.aload_n 0 dX6_treaty_58 rfl ?_
      refine J.iload_n 1 dX6_treaty_59 rfl ?_
      refine J.iload 5 dX6_treaty_60 rfl ?_
      refine kX6_415 rfl htr hT dX6_treaty_62 (by omega) (Nat.le_of_ble_eq_true rfl) hw (fun r62 hw => ?_)
      refine J.iconst (v := (2 : Int32)) dX6_treaty_65 (by decide) ?_
      refine J.isub dX6_treaty_66 ?_
      refine J.nm hw (fun y67 hw => ?_)
      refine J.istore (lv' := [(6, .int y67), (0, .ref t), (1, .int a1), (2, .int a2), (3, .int x3), (4, .int x4), (5, .int x5)]) dX6_treaty_67 (by decide) rfl ?_
      refine J.aload_n 1 dX6_treaty_69 rfl ?_
      refine J.iload_n 3 dX6_treaty_70 rfl ?_
      refine J.bipush (v := (8 : Int32)) dX6_treaty_71 (by decide) ?_
      refine J.iload 6 dX6_treaty_73 rfl ?_
      refine J.isub dX6_treaty_75 ?_
      refine kX6_415 rfl htr hT dX6_treaty_76 (by omega) (Nat.le_of_ble_eq_true rfl) hw (fun r76 hw => ?_)
      refine J.iconst (v := (2 : Int32)) dX6_treaty_79 (by decide) ?_
      refine J.isub dX6_treaty_80 ?_
      refine J.nm hw (fun y81 hw => ?_)
      refine J.istore (lv' := [(7, .int y81), (6, .int y67), (0, .ref t), (1, .int a1), (2, .int a2), (3, .int x3), (4, .int x4), (5, .int x5)]) dX6_treaty_81 (by decide) rfl ?_
      refine J.iload 1 dX6_treaty_83 rfl ?_
      refine J.if_lt 116 dX6_treaty_85 (by decide) ⟨fun c85 => ?_, fun c85 => ?_⟩
      · have hw := hw.1 c85
        refine J.iincN 7 (K := (1 : Int32)) (lv' := fun y116 => [(5, .int y116), (7, .int y81), (6, .int y67), (0, .ref t), (1, .int a1), (2, .int a2), (3, .int x3), (4, .int x4)]) dX6_treaty_116 rfl (by decide) (by decide) (fun _ => rfl) hw (fun y116 hw => ?_)
        refine J.goto 51 dX6_treaty_119 (by decide) ?_
        exact J.pick [3, 4, 5, 6, 7, 0] rfl (ih _ _ _ _ hw)
      · have hw := hw.2 c85
        refine J.iload 0 dX6_treaty_88 rfl ?_
        refine J.if_lt 116 dX6_treaty_90 (by decide) ⟨fun c90 => ?_, fun c90 => ?_⟩
        · have hw := hw.1 c90
          refine J.iincN 7 (K := (1 : Int32)) (lv' := fun y116 => [(5, .int y116), (7, .int y81), (6, .int y67), (0, .ref t), (1, .int a1), (2, .int a2), (3, .int x3), (4, .int x4)]) dX6_treaty_116 rfl (by decide) (by decide) (fun _ => rfl) hw (fun y116 hw => ?_)
          refine J.goto 51 dX6_treaty_119 (by decide) ?_
          exact J.pick [3, 4, 5, 6, 7, 0] rfl (ih _ _ _ _ hw)
        · have hw := hw.2 c90
          refine J.iload 1 dX6_treaty_93 rfl ?_
          refine J.iload 0 dX6_treaty_95 rfl ?_
          refine J.imul dX6_treaty_97 ?_
          refine J.iload 6 dX6_treaty_98 rfl ?_
          refine J.icmp_gt 106 dX6_treaty_100 (by decide) ⟨fun c100 => ?_, fun c100 => ?_⟩
          · have hw := hw.1 c100
            refine J.iload 1 dX6_treaty_106 rfl ?_
            refine J.iload 0 dX6_treaty_108 rfl ?_
            refine J.imul dX6_treaty_110 ?_
            refine J.nm hw (fun y111 hw => ?_)
            refine J.istore (lv' := [(4, .int y111), (7, .int y81), (6, .int y67), (0, .ref t), (1, .int a1), (2, .int a2), (3, .int x3), (5, .int x5)]) dX6_treaty_111 (by decide) rfl ?_
            refine J.iload 7 dX6_treaty_113 rfl ?_
            refine J.istore_n (lv' := [(3, .int x5), (4, .int y111), (7, .int y81), (6, .int y67), (0, .ref t), (1, .int a1), (2, .int a2), (5, .int x5)]) dX6_treaty_115 (by decide) rfl ?_
            refine J.iincN 7 (K := (1 : Int32)) (lv' := fun y116 => [(5, .int y116), (3, .int x5), (4, .int y111), (7, .int y81), (6, .int y67), (0, .ref t), (1, .int a1), (2, .int a2)]) dX6_treaty_116 rfl (by decide) (by decide) (fun _ => rfl) hw (fun y116 hw => ?_)
            refine J.goto 51 dX6_treaty_119 (by decide) ?_
            exact J.pick [5, 6, 7, 1, 2, 0] rfl (ih _ _ _ _ hw)
          · have hw := hw.2 c100
            refine J.goto 116 dX6_treaty_103 (by decide) ?_
            refine J.iincN 7 (K := (1 : Int32)) (lv' := fun y116 => [(5, .int y116), (7, .int y81), (6, .int y67), (0, .ref t), (1, .int a1), (2, .int a2), (3, .int x3), (4, .int x4)]) dX6_treaty_116 rfl (by decide) (by decide) (fun _ => rfl) hw (fun y116 hw => ?_)
            refine J.goto 51 dX6_treaty_119 (by decide) ?_
            exact J.pick [3, 4, 5, 6, 7, 0] rfl (ih _ _ _ _ hw)
def wX6_treaty_31 (t : Nat) (a1 : Int32) (a2 : Int32) (Q : Int32 → (Nat → Nat → Int32) → Prop) (V : Nat → Nat → Int32) (s1 : Int32) : Prop :=
  ((((vset V t 0 s1) t 0) ≤ 0 → (∃ f9, wX6_treaty_51 t a1 a2 Q f9 (vset V t 0 s1) (-1 : Int32) (-1 : Int32) (0 : Int32))) ∧ (¬ ((vset V t 0 s1) t 0) ≤ 0 → Q (0 : Int32) (vset V t 0 s1)))
theorem rX6_treaty_31 {G : jG} {l : Launch} {d c n : Nat} (htr : l.stackTraces = false) (hdd : 2 ≤ d) {sh : List jH} {t : Nat} (hT : jReg shX6 sh t) {R : Nat → Nat → Option Nat} {a1 : Int32} {a2 : Int32} {Q : Int32 → (Nat → Nat → Int32) → Prop} {V : Nat → Nat → Int32} {s1 : Int32} (hw : wX6_treaty_31 t a1 a2 Q V s1) : J G l MX6_treaty d c n 31 [(0, .ref t), (1, .int a1), (2, .int a2)] [.int s1, .ref t] (mk sh V R) (jWr sh R Q) jNo := by
  unfold wX6_treaty_31 at hw
  refine pX6_54 rfl hT dX6_treaty_31 ?_
  refine J.aload_n 0 dX6_treaty_34 rfl ?_
  refine gX6_54 rfl hT dX6_treaty_35 ?_
  refine J.if_le 43 dX6_treaty_38 (by decide) ⟨fun c38 => ?_, fun c38 => ?_⟩
  · have hw := hw.1 c38
    refine J.iconst (v := (-1 : Int32)) dX6_treaty_43 (by decide) ?_
    refine J.istore_n (lv' := [(3, .int (-1 : Int32)), (0, .ref t), (1, .int a1), (2, .int a2)]) dX6_treaty_44 (by decide) rfl ?_
    refine J.iconst (v := (-1 : Int32)) dX6_treaty_45 (by decide) ?_
    refine J.istore (lv' := [(4, .int (-1 : Int32)), (3, .int (-1 : Int32)), (0, .ref t), (1, .int a1), (2, .int a2)]) dX6_treaty_46 (by decide) rfl ?_
    refine J.iconst (v := (0 : Int32)) dX6_treaty_48 (by decide) ?_
    refine J.istore (lv' := [(5, .int (0 : Int32)), (4, .int (-1 : Int32)), (3, .int (-1 : Int32)), (0, .ref t), (1, .int a1), (2, .int a2)]) dX6_treaty_49 (by decide) rfl ?_
    obtain ⟨f9, hw⟩ := hw
    exact J.pick [3, 4, 5, 2, 1, 0] rfl (rX6_treaty_51 htr hdd hT f9 _ _ _ _ hw)
  · have hw := hw.2 c38
    refine J.iconst (v := (0 : Int32)) dX6_treaty_41 (by decide) ?_
    exact J.iret rfl dX6_treaty_42 ⟨_, rfl, _, rfl, hw⟩
def wX6_treaty_17 (t : Nat) (a1 : Int32) (a2 : Int32) (Q : Int32 → (Nat → Nat → Int32) → Prop) (V : Nat → Nat → Int32) : Prop :=
  wX6_treaty_31 t a1 a2 Q V (1 : Int32)
theorem rX6_treaty_17 {G : jG} {l : Launch} {d c n : Nat} (htr : l.stackTraces = false) (hdd : 2 ≤ d) {sh : List jH} {t : Nat} (hT : jReg shX6 sh t) {R : Nat → Nat → Option Nat} {a1 : Int32} {a2 : Int32} {Q : Int32 → (Nat → Nat → Int32) → Prop} {V : Nat → Nat → Int32} (hw : wX6_treaty_17 t a1 a2 Q V) : J G l MX6_treaty d c n 17 [(0, .ref t), (1, .int a1), (2, .int a2)] [.ref t] (mk sh V R) (jWr sh R Q) jNo := by
  unfold wX6_treaty_17 at hw
  refine J.iconst (v := (1 : Int32)) dX6_treaty_17 (by decide) ?_
  refine J.goto 31 dX6_treaty_18 (by decide) ?_
  exact (rX6_treaty_31 htr hdd hT hw)
def wX6_treaty (t : Nat) (V : Nat → Nat → Int32) (a1 : Int32) (a2 : Int32) (Q : Int32 → (Nat → Nat → Int32) → Prop) : Prop :=
  wX6_isHost t V a1 (fun r3 => ((r3 = 0 → wX6_treaty_17 t a1 a2 Q V) ∧ (¬ r3 = 0 → wX6_isHost t V a2 (fun r11 => ((¬ r11 = 0 → ((¬ a1 = a2 → wX6_treaty_31 t a1 a2 Q V (0 : Int32)) ∧ (a1 = a2 → wX6_treaty_31 t a1 a2 Q V (2 : Int32)))) ∧ (r11 = 0 → wX6_treaty_17 t a1 a2 Q V))))))
theorem mX6_treaty {G : jG} {l : Launch} (htr : l.stackTraces = false) {sh : List jH} {V : Nat → Nat → Int32} {R : Nat → Nat → Option Nat} {t : Nat} (hT : jReg shX6 sh t) {a1 : Int32} {a2 : Int32} {Q : Int32 → (Nat → Nat → Int32) → Prop} (hw : wX6_treaty t V a1 a2 Q) : JM G l MX6_treaty 2 0 0 [.ref t, .int a1, .int a2] (mk sh V R) (jWr sh R Q) jNo := by
  refine JM.intro (by decide) rfl htr (Nat.le_of_ble_eq_true rfl) ?_
  show J G l MX6_treaty 2 0 0 0 [(0, .ref t), (1, .int a1), (2, .int a2)] [] (mk sh V R) _ _
  unfold wX6_treaty at hw
  refine J.aload_n 0 dX6_treaty_0 rfl ?_
  refine J.aload_n 0 dX6_treaty_1 rfl ?_
  refine J.iload_n 1 dX6_treaty_2 rfl ?_
  refine kX6_310 rfl htr hT dX6_treaty_3 (by omega) (Nat.le_of_ble_eq_true rfl) hw (fun r3 hw => ?_)
  refine J.if_eq 17 dX6_treaty_6 (by decide) ⟨fun c6 => ?_, fun c6 => ?_⟩
  · have hw := hw.1 c6
    exact (rX6_treaty_17 htr (Nat.le_refl _) hT hw)
  · have hw := hw.2 c6
    refine J.aload_n 0 dX6_treaty_9 rfl ?_
    refine J.iload_n 2 dX6_treaty_10 rfl ?_
    refine kX6_310 rfl htr hT dX6_treaty_11 (by omega) (Nat.le_of_ble_eq_true rfl) hw (fun r11 hw => ?_)
    refine J.if_ne 21 dX6_treaty_14 (by decide) ⟨fun c14 => ?_, fun c14 => ?_⟩
    · have hw := hw.1 c14
      refine J.iload_n 1 dX6_treaty_21 rfl ?_
      refine J.iload_n 2 dX6_treaty_22 rfl ?_
      refine J.icmp_ne 30 dX6_treaty_23 (by decide) ⟨fun c23 => ?_, fun c23 => ?_⟩
      · have hw := hw.1 c23
        refine J.iconst (v := (0 : Int32)) dX6_treaty_30 (by decide) ?_
        exact (rX6_treaty_31 htr (Nat.le_refl _) hT hw)
      · have hw := hw.2 c23
        refine J.iconst (v := (2 : Int32)) dX6_treaty_26 (by decide) ?_
        refine J.goto 31 dX6_treaty_27 (by decide) ?_
        exact (rX6_treaty_31 htr (Nat.le_refl _) hT hw)
    · have hw := hw.2 c14
      exact (rX6_treaty_17 htr (Nat.le_refl _) hT hw)
-- VisitingHoursModel.twice()I
abbrev MX6_twice : jM := (yX6_twice, cX6_twice, 5, some .int, [])
def wX6_twice_24 (t : Nat) (Q : Int32 → (Nat → Nat → Int32) → Prop) (K9 : (Nat → Nat → Int32) → Int32 → Int32 → Prop) : Nat → (Nat → Nat → Int32) → Int32 → Int32 → Int32 → Int32 → Prop
  | 0, _, _, _, _, _ => False
  | f + 1, V, x1, x2, x3, x4 =>
    (((V (t + 1) 3) ≤ x4 → ((x3 ≤ (1 : Int32) → (∀ y76 : Int32, y76 = (x1 ||| (0 : Int32)) → (∀ y77 : Int32, y77 = x2 + (1 : Int32) → K9 V y76 y77))) ∧ (¬ x3 ≤ (1 : Int32) → (∀ y76 : Int32, y76 = (x1 ||| ((1 : Int32) <<< (x2 &&& 31))) → (∀ y77 : Int32, y77 = x2 + (1 : Int32) → K9 V y76 y77))))) ∧ (¬ (V (t + 1) 3) ≤ x4 → wX6_seesOf t V x4 (fun r39 => wX6_isOf r39 x2 (fun r43 => ((r43 = 0 → (∀ y55 : Int32, y55 = (x3 + (0 : Int32)) → (∀ y56 : Int32, y56 = x4 + (1 : Int32) → wX6_twice_24 t Q K9 f V x1 x2 y55 y56))) ∧ (¬ r43 = 0 → (∀ y55 : Int32, y55 = (x3 + (1 : Int32)) → (∀ y56 : Int32, y56 = x4 + (1 : Int32) → wX6_twice_24 t Q K9 f V x1 x2 y55 y56))))))))
theorem rX6_twice_24 {G : jG} {l : Launch} {d c n : Nat} (htr : l.stackTraces = false) (hdd : 2 ≤ d) {sh : List jH} {t : Nat} (hT : jReg shX6 sh t) {R : Nat → Nat → Option Nat} {Q : Int32 → (Nat → Nat → Int32) → Prop} {K9 : (Nat → Nat → Int32) → Int32 → Int32 → Prop} (hK9 : ∀ (V : Nat → Nat → Int32) (x1 : Int32) (x2 : Int32), K9 V x1 x2 → J G l MX6_twice d c n 9 [(0, .ref t), (1, .int x1), (2, .int x2)] [] (mk sh V R) (jWr sh R Q) jNo) : ∀ (f : Nat) (V : Nat → Nat → Int32) (x1 : Int32) (x2 : Int32) (x3 : Int32) (x4 : Int32), wX6_twice_24 t Q K9 f V x1 x2 x3 x4 → J G l MX6_twice d c n 24 [(0, .ref t), (1, .int x1), (2, .int x2), (3, .int x3), (4, .int x4)] [] (mk sh V R) (jWr sh R Q) jNo := by
  intro f
  induction f with
  | zero =>
    intro V x1 x2 x3 x4 hw
    rw [wX6_twice_24] at hw
    exact hw.elim
  | succ f ih =>
    intro V x1 x2 x3 x4 hw
    rw [wX6_twice_24] at hw
    refine J.iload 4 dX6_twice_24 rfl ?_
    refine J.aload_n 0 dX6_twice_26 rfl ?_
    refine gX6_7 rfl hT dX6_twice_27 ?_
    refine J.iconst (v := (3 : Int32)) dX6_twice_30 (by decide) ?_
    refine JV.ialdK 3 dX6_twice_31 (hT.ge 1) (hT.at 1 rfl) rfl (by decide) (by decide) ?_
    refine J.icmp_ge 62 dX6_twice_32 (by decide) ⟨fun c32 => ?_, fun c32 => ?_⟩
    · have hw := hw.1 c32
      refine J.iload_n 1 dX6_twice_62 rfl ?_
      refine J.iload_n 3 dX6_twice_63 rfl ?_
      refine J.iconst (v := (1 : Int32)) dX6_twice_64 (by decide) ?_
      refine J.icmp_le 74 dX6_twice_65 (by decide) ⟨fun c65 => ?_, fun c65 => ?_⟩
      · have hw := hw.1 c65
        refine J.iconst (v := (0 : Int32)) dX6_twice_74 (by decide) ?_
        refine J.ior dX6_twice_75 ?_
        refine J.nm hw (fun y76 hw => ?_)
        refine J.istore_n (lv' := [(1, .int y76), (0, .ref t), (2, .int x2), (3, .int x3), (4, .int x4)]) dX6_twice_76 (by decide) rfl ?_
        refine J.iincN 2 (K := (1 : Int32)) (lv' := fun y77 => [(2, .int y77), (1, .int y76), (0, .ref t), (3, .int x3), (4, .int x4)]) dX6_twice_77 rfl (by decide) (by decide) (fun _ => rfl) hw (fun y77 hw => ?_)
        refine J.goto 9 dX6_twice_80 (by decide) ?_
        exact J.pick [2, 1, 0] rfl (hK9 _ _ _ hw)
      · have hw := hw.2 c65
        refine J.iconst (v := (1 : Int32)) dX6_twice_68 (by decide) ?_
        refine J.iload_n 2 dX6_twice_69 rfl ?_
        refine J.ishl dX6_twice_70 ?_
        refine J.goto 75 dX6_twice_71 (by decide) ?_
        refine J.ior dX6_twice_75 ?_
        refine J.nm hw (fun y76 hw => ?_)
        refine J.istore_n (lv' := [(1, .int y76), (0, .ref t), (2, .int x2), (3, .int x3), (4, .int x4)]) dX6_twice_76 (by decide) rfl ?_
        refine J.iincN 2 (K := (1 : Int32)) (lv' := fun y77 => [(2, .int y77), (1, .int y76), (0, .ref t), (3, .int x3), (4, .int x4)]) dX6_twice_77 rfl (by decide) (by decide) (fun _ => rfl) hw (fun y77 hw => ?_)
        refine J.goto 9 dX6_twice_80 (by decide) ?_
        exact J.pick [2, 1, 0] rfl (hK9 _ _ _ hw)
    · have hw := hw.2 c32
      refine J.iload_n 3 dX6_twice_35 rfl ?_
      refine J.aload_n 0 dX6_twice_36 rfl ?_
      refine J.iload 4 dX6_twice_37 rfl ?_
      refine kX6_316 rfl htr hT dX6_twice_39 (by omega) (Nat.le_of_ble_eq_true rfl) hw (fun r39 hw => ?_)
      refine J.iload_n 2 dX6_twice_42 rfl ?_
      refine kX6_74 rfl htr dX6_twice_43 (by omega) (Nat.le_of_ble_eq_true rfl) hw (fun r43 hw => ?_)
      refine J.if_eq 53 dX6_twice_46 (by decide) ⟨fun c46 => ?_, fun c46 => ?_⟩
      · have hw := hw.1 c46
        refine J.iconst (v := (0 : Int32)) dX6_twice_53 (by decide) ?_
        refine J.iadd dX6_twice_54 ?_
        refine J.nm hw (fun y55 hw => ?_)
        refine J.istore_n (lv' := [(3, .int y55), (0, .ref t), (1, .int x1), (2, .int x2), (4, .int x4)]) dX6_twice_55 (by decide) rfl ?_
        refine J.iincN 4 (K := (1 : Int32)) (lv' := fun y56 => [(4, .int y56), (3, .int y55), (0, .ref t), (1, .int x1), (2, .int x2)]) dX6_twice_56 rfl (by decide) (by decide) (fun _ => rfl) hw (fun y56 hw => ?_)
        refine J.goto 24 dX6_twice_59 (by decide) ?_
        exact J.pick [2, 3, 4, 1, 0] rfl (ih _ _ _ _ _ hw)
      · have hw := hw.2 c46
        refine J.iconst (v := (1 : Int32)) dX6_twice_49 (by decide) ?_
        refine J.goto 54 dX6_twice_50 (by decide) ?_
        refine J.iadd dX6_twice_54 ?_
        refine J.nm hw (fun y55 hw => ?_)
        refine J.istore_n (lv' := [(3, .int y55), (0, .ref t), (1, .int x1), (2, .int x2), (4, .int x4)]) dX6_twice_55 (by decide) rfl ?_
        refine J.iincN 4 (K := (1 : Int32)) (lv' := fun y56 => [(4, .int y56), (3, .int y55), (0, .ref t), (1, .int x1), (2, .int x2)]) dX6_twice_56 rfl (by decide) (by decide) (fun _ => rfl) hw (fun y56 hw => ?_)
        refine J.goto 24 dX6_twice_59 (by decide) ?_
        exact J.pick [2, 3, 4, 1, 0] rfl (ih _ _ _ _ _ hw)
def wX6_twice_9 (t : Nat) (Q : Int32 → (Nat → Nat → Int32) → Prop) : Nat → (Nat → Nat → Int32) → Int32 → Int32 → Prop
  | 0, _, _, _ => False
  | f + 1, V, x1, x2 =>
    (((V (t + 1) 4) ≤ x2 → Q x1 V) ∧ (¬ (V (t + 1) 4) ≤ x2 → (∃ f9, wX6_twice_24 t Q (fun V x1 x2 => wX6_twice_9 t Q f V x1 x2) f9 V x1 x2 (0 : Int32) (0 : Int32))))
theorem rX6_twice_9 {G : jG} {l : Launch} {d c n : Nat} (htr : l.stackTraces = false) (hdd : 2 ≤ d) {sh : List jH} {t : Nat} (hT : jReg shX6 sh t) {R : Nat → Nat → Option Nat} {Q : Int32 → (Nat → Nat → Int32) → Prop} : ∀ (f : Nat) (V : Nat → Nat → Int32) (x1 : Int32) (x2 : Int32), wX6_twice_9 t Q f V x1 x2 → J G l MX6_twice d c n 9 [(0, .ref t), (1, .int x1), (2, .int x2)] [] (mk sh V R) (jWr sh R Q) jNo := by
  intro f
  induction f with
  | zero =>
    intro V x1 x2 hw
    rw [wX6_twice_9] at hw
    exact hw.elim
  | succ f ih =>
    intro V x1 x2 hw
    rw [wX6_twice_9] at hw
    refine J.iload_n 2 dX6_twice_9 rfl ?_
    refine J.aload_n 0 dX6_twice_10 rfl ?_
    refine gX6_7 rfl hT dX6_twice_11 ?_
    refine J.iconst (v := (4 : Int32)) dX6_twice_14 (by decide) ?_
    refine JV.ialdK 4 dX6_twice_15 (hT.ge 1) (hT.at 1 rfl) rfl (by decide) (by decide) ?_
    refine J.icmp_ge 83 dX6_twice_16 (by decide) ⟨fun c16 => ?_, fun c16 => ?_⟩
    · have hw := hw.1 c16
      refine J.iload_n 1 dX6_twice_83 rfl ?_
      exact J.iret rfl dX6_twice_84 ⟨_, rfl, _, rfl, hw⟩
    · have hw := hw.2 c16
      refine J.iconst (v := (0 : Int32)) dX6_twice_19 (by decide) ?_
      refine J.istore_n (lv' := [(3, .int (0 : Int32)), (0, .ref t), (1, .int x1), (2, .int x2)]) dX6_twice_20 (by decide) rfl ?_
      refine J.iconst (v := (0 : Int32)) dX6_twice_21 (by decide) ?_
      refine J.istore (lv' := [(4, .int (0 : Int32)), (3, .int (0 : Int32)), (0, .ref t), (1, .int x1), (2, .int x2)]) dX6_twice_22 (by decide) rfl ?_
      obtain ⟨f9, hw⟩ := hw
      exact J.pick [2, 3, 4, 1, 0] rfl (rX6_twice_24 htr hdd hT ih f9 _ _ _ _ _ hw)
def wX6_twice (t : Nat) (V : Nat → Nat → Int32) (Q : Int32 → (Nat → Nat → Int32) → Prop) : Prop :=
  (∃ f9, wX6_twice_9 t Q f9 (vset V t 0 (0 : Int32)) (0 : Int32) (0 : Int32))
theorem mX6_twice {G : jG} {l : Launch} (htr : l.stackTraces = false) {sh : List jH} {V : Nat → Nat → Int32} {R : Nat → Nat → Option Nat} {t : Nat} (hT : jReg shX6 sh t) {Q : Int32 → (Nat → Nat → Int32) → Prop} (hw : wX6_twice t V Q) : JM G l MX6_twice 2 0 0 [.ref t] (mk sh V R) (jWr sh R Q) jNo := by
  refine JM.intro (by decide) rfl htr (Nat.le_of_ble_eq_true rfl) ?_
  show J G l MX6_twice 2 0 0 0 [(0, .ref t)] [] (mk sh V R) _ _
  unfold wX6_twice at hw
  refine J.aload_n 0 dX6_twice_0 rfl ?_
  refine J.iconst (v := (0 : Int32)) dX6_twice_1 (by decide) ?_
  refine pX6_54 rfl hT dX6_twice_2 ?_
  refine J.iconst (v := (0 : Int32)) dX6_twice_5 (by decide) ?_
  refine J.istore_n (lv' := [(1, .int (0 : Int32)), (0, .ref t)]) dX6_twice_6 (by decide) rfl ?_
  refine J.iconst (v := (0 : Int32)) dX6_twice_7 (by decide) ?_
  refine J.istore_n (lv' := [(2, .int (0 : Int32)), (1, .int (0 : Int32)), (0, .ref t)]) dX6_twice_8 (by decide) rfl ?_
  obtain ⟨f9, hw⟩ := hw
  exact J.pick [2, 1, 0] rfl (rX6_twice_9 htr (Nat.le_refl _) hT f9 _ _ _ hw)
-- VisitingHoursModel.undo()Z
abbrev MX6_undo : jM := (yX6_undo, cX6_undo, 2, some .boolean, [])
def wX6_undo_26 (t : Nat) (Q : Int32 → (Nat → Nat → Int32) → Prop) : Nat → (Nat → Nat → Int32) → Int32 → Prop
  | 0, _, _ => False
  | f + 1, V, x1 =>
    (((619 : Int32) ≤ x1 → Q (1 : Int32) V) ∧ (¬ (619 : Int32) ≤ x1 → (vp_in (((619 : Int32) * (V t 6)) + x1) 7428 ∧ (∀ y53 : Int32, y53 = (V (t + 4) (((619 : Int32) * (V t 6)) + x1).toNatClampNeg) → (vp_in x1 1019 ∧ (∀ y54 : Int32, y54 = x1 + (1 : Int32) → wX6_undo_26 t Q f (vset V (t + 1) x1.toNatClampNeg y53) y54))))))
theorem rX6_undo_26 {G : jG} {l : Launch} {d c n : Nat} (htr : l.stackTraces = false) (hdd : 0 ≤ d) {sh : List jH} {t : Nat} (hT : jReg shX6 sh t) {R : Nat → Nat → Option Nat} {Q : Int32 → (Nat → Nat → Int32) → Prop} : ∀ (f : Nat) (V : Nat → Nat → Int32) (x1 : Int32), wX6_undo_26 t Q f V x1 → J G l MX6_undo d c n 26 [(0, .ref t), (1, .int x1)] [] (mk sh V R) (jWr sh R Q) jNo := by
  intro f
  induction f with
  | zero =>
    intro V x1 hw
    rw [wX6_undo_26] at hw
    exact hw.elim
  | succ f ih =>
    intro V x1 hw
    rw [wX6_undo_26] at hw
    refine J.iload_n 1 dX6_undo_26 rfl ?_
    refine J.sipush (v := (619 : Int32)) dX6_undo_27 (by decide) ?_
    refine J.icmp_ge 60 dX6_undo_30 (by decide) ⟨fun c30 => ?_, fun c30 => ?_⟩
    · have hw := hw.1 c30
      refine J.iconst (v := (1 : Int32)) dX6_undo_60 (by decide) ?_
      exact J.zret rfl rfl dX6_undo_61 ⟨_, rfl, _, rfl, hw⟩
    · have hw := hw.2 c30
      refine J.aload_n 0 dX6_undo_33 rfl ?_
      refine gX6_7 rfl hT dX6_undo_34 ?_
      refine J.iload_n 1 dX6_undo_37 rfl ?_
      refine J.aload_n 0 dX6_undo_38 rfl ?_
      refine gX6_19 rfl hT dX6_undo_39 ?_
      refine J.sipush (v := (619 : Int32)) dX6_undo_42 (by decide) ?_
      refine J.aload_n 0 dX6_undo_45 rfl ?_
      refine gX6_205 rfl hT dX6_undo_46 ?_
      refine J.imul dX6_undo_49 ?_
      refine J.iload_n 1 dX6_undo_50 rfl ?_
      refine J.iadd dX6_undo_51 ?_
      obtain ⟨h52, hw⟩ := hw
      refine JV.iald dX6_undo_52 (hT.ge 4) (hT.at 4 rfl) h52 ?_
      refine J.nm hw (fun y53 hw => ?_)
      obtain ⟨h53, hw⟩ := hw
      refine JV.iast dX6_undo_53 (hT.ge 1) (hT.at 1 rfl) h53 ?_
      refine J.iincN 1 (K := (1 : Int32)) (lv' := fun y54 => [(1, .int y54), (0, .ref t)]) dX6_undo_54 rfl (by decide) (by decide) (fun _ => rfl) hw (fun y54 hw => ?_)
      refine J.goto 26 dX6_undo_57 (by decide) ?_
      exact J.pick [1, 0] rfl (ih _ _ hw)
def wX6_undo (t : Nat) (V : Nat → Nat → Int32) (Q : Int32 → (Nat → Nat → Int32) → Prop) : Prop :=
  ((¬ ((vset V t 0 (0 : Int32)) t 6) = 0 → (∀ y21 : Int32, y21 = (((vset V t 0 (0 : Int32)) t 6) - (1 : Int32)) → (∃ f9, wX6_undo_26 t Q f9 (vset (vset V t 0 (0 : Int32)) t 6 y21) (0 : Int32)))) ∧ (((vset V t 0 (0 : Int32)) t 6) = 0 → Q (0 : Int32) (vset V t 0 (0 : Int32))))
theorem mX6_undo {G : jG} {l : Launch} (htr : l.stackTraces = false) {sh : List jH} {V : Nat → Nat → Int32} {R : Nat → Nat → Option Nat} {t : Nat} (hT : jReg shX6 sh t) {Q : Int32 → (Nat → Nat → Int32) → Prop} (hw : wX6_undo t V Q) : JM G l MX6_undo 0 0 0 [.ref t] (mk sh V R) (jWr sh R Q) jNo := by
  refine JM.intro (by decide) rfl htr (Nat.le_of_ble_eq_true rfl) ?_
  show J G l MX6_undo 0 0 0 0 [(0, .ref t)] [] (mk sh V R) _ _
  unfold wX6_undo at hw
  refine J.aload_n 0 dX6_undo_0 rfl ?_
  refine J.iconst (v := (0 : Int32)) dX6_undo_1 (by decide) ?_
  refine pX6_54 rfl hT dX6_undo_2 ?_
  refine J.aload_n 0 dX6_undo_5 rfl ?_
  refine gX6_205 rfl hT dX6_undo_6 ?_
  refine J.if_ne 14 dX6_undo_9 (by decide) ⟨fun c9 => ?_, fun c9 => ?_⟩
  · have hw := hw.1 c9
    refine J.aload_n 0 dX6_undo_14 rfl ?_
    refine J.dup dX6_undo_15 rfl ?_
    refine gX6_205 rfl hT dX6_undo_16 ?_
    refine J.iconst (v := (1 : Int32)) dX6_undo_19 (by decide) ?_
    refine J.isub dX6_undo_20 ?_
    refine J.nm hw (fun y21 hw => ?_)
    refine pX6_205 rfl hT dX6_undo_21 ?_
    refine J.iconst (v := (0 : Int32)) dX6_undo_24 (by decide) ?_
    refine J.istore_n (lv' := [(1, .int (0 : Int32)), (0, .ref t)]) dX6_undo_25 (by decide) rfl ?_
    obtain ⟨f9, hw⟩ := hw
    exact J.pick [1, 0] rfl (rX6_undo_26 htr (Nat.le_refl _) hT f9 _ _ hw)
  · have hw := hw.2 c9
    refine J.iconst (v := (0 : Int32)) dX6_undo_12 (by decide) ?_
    exact J.zret rfl rfl dX6_undo_13 ⟨_, rfl, _, rfl, hw⟩
-- VisitingHoursModel.value(IIZI)I
abbrev MX6_value : jM := (yX6_value, cX6_value, 5, some .int, [])
def wX6_value_76 (t : Nat) (a1 : Int32) (a2 : Int32) (a3 : Int32) (a4 : Int32) (Q : Int32 → (Nat → Nat → Int32) → Prop) (V : Nat → Nat → Int32) (s1 : Int32) : Prop :=
  wX6_sets t V s1 a4 (fun r78 V78 => Q r78 V78)
theorem rX6_value_76 {G : jG} {l : Launch} {d c n : Nat} (htr : l.stackTraces = false) (hdd : 2 ≤ d) {sh : List jH} {t : Nat} (hT : jReg shX6 sh t) {R : Nat → Nat → Option Nat} {a1 : Int32} {a2 : Int32} {a3 : Int32} {a4 : Int32} {Q : Int32 → (Nat → Nat → Int32) → Prop} {V : Nat → Nat → Int32} {s1 : Int32} (hw : wX6_value_76 t a1 a2 a3 a4 Q V s1) : J G l MX6_value d c n 76 [(4, .int a4)] [.int s1, .ref t] (mk sh V R) (jWr sh R Q) jNo := by
  unfold wX6_value_76 at hw
  refine J.iload 0 dX6_value_76 rfl ?_
  refine kX6_344 rfl htr hT dX6_value_78 (by omega) (Nat.le_of_ble_eq_true rfl) hw (fun r78 V78 hw => ?_)
  exact J.iret rfl dX6_value_81 ⟨_, rfl, _, rfl, hw⟩
def wX6_value_37 (t : Nat) (a1 : Int32) (a2 : Int32) (a3 : Int32) (a4 : Int32) (Q : Int32 → (Nat → Nat → Int32) → Prop) (V : Nat → Nat → Int32) (s1 : Int32) : Prop :=
  ((((vset V t 0 s1) t 0) ≤ 0 → ((a3 = 0 → wX6_value_76 t a1 a2 a3 a4 Q (vset V t 0 s1) (((131 : Int32) + ((8 : Int32) * a2)) + a1)) ∧ (¬ a3 = 0 → wX6_value_76 t a1 a2 a3 a4 Q (vset V t 0 s1) (((67 : Int32) + ((8 : Int32) * a1)) + a2)))) ∧ (¬ ((vset V t 0 s1) t 0) ≤ 0 → Q (0 : Int32) (vset V t 0 s1)))
theorem rX6_value_37 {G : jG} {l : Launch} {d c n : Nat} (htr : l.stackTraces = false) (hdd : 2 ≤ d) {sh : List jH} {t : Nat} (hT : jReg shX6 sh t) {R : Nat → Nat → Option Nat} {a1 : Int32} {a2 : Int32} {a3 : Int32} {a4 : Int32} {Q : Int32 → (Nat → Nat → Int32) → Prop} {V : Nat → Nat → Int32} {s1 : Int32} (hw : wX6_value_37 t a1 a2 a3 a4 Q V s1) : J G l MX6_value d c n 37 [(0, .ref t), (1, .int a1), (2, .int a2), (3, .int a3), (4, .int a4)] [.int s1, .ref t] (mk sh V R) (jWr sh R Q) jNo := by
  unfold wX6_value_37 at hw
  refine pX6_54 rfl hT dX6_value_37 ?_
  refine J.aload_n 0 dX6_value_40 rfl ?_
  refine gX6_54 rfl hT dX6_value_41 ?_
  refine J.if_le 49 dX6_value_44 (by decide) ⟨fun c44 => ?_, fun c44 => ?_⟩
  · have hw := hw.1 c44
    refine J.aload_n 0 dX6_value_49 rfl ?_
    refine J.iload_n 3 dX6_value_50 rfl ?_
    refine J.if_eq 66 dX6_value_51 (by decide) ⟨fun c51 => ?_, fun c51 => ?_⟩
    · have hw := hw.1 c51
      refine J.sipush (v := (131 : Int32)) dX6_value_66 (by decide) ?_
      refine J.bipush (v := (8 : Int32)) dX6_value_69 (by decide) ?_
      refine J.iload_n 2 dX6_value_71 rfl ?_
      refine J.imul dX6_value_72 ?_
      refine J.iadd dX6_value_73 ?_
      refine J.iload_n 1 dX6_value_74 rfl ?_
      refine J.iadd dX6_value_75 ?_
      exact J.pick [4] rfl (rX6_value_76 htr hdd hT hw)
    · have hw := hw.2 c51
      refine J.bipush (v := (67 : Int32)) dX6_value_54 (by decide) ?_
      refine J.bipush (v := (8 : Int32)) dX6_value_56 (by decide) ?_
      refine J.iload_n 1 dX6_value_58 rfl ?_
      refine J.imul dX6_value_59 ?_
      refine J.iadd dX6_value_60 ?_
      refine J.iload_n 2 dX6_value_61 rfl ?_
      refine J.iadd dX6_value_62 ?_
      refine J.goto 76 dX6_value_63 (by decide) ?_
      exact J.pick [4] rfl (rX6_value_76 htr hdd hT hw)
  · have hw := hw.2 c44
    refine J.iconst (v := (0 : Int32)) dX6_value_47 (by decide) ?_
    exact J.iret rfl dX6_value_48 ⟨_, rfl, _, rfl, hw⟩
def wX6_value_17 (t : Nat) (a1 : Int32) (a2 : Int32) (a3 : Int32) (a4 : Int32) (Q : Int32 → (Nat → Nat → Int32) → Prop) (V : Nat → Nat → Int32) : Prop :=
  wX6_value_37 t a1 a2 a3 a4 Q V (1 : Int32)
theorem rX6_value_17 {G : jG} {l : Launch} {d c n : Nat} (htr : l.stackTraces = false) (hdd : 2 ≤ d) {sh : List jH} {t : Nat} (hT : jReg shX6 sh t) {R : Nat → Nat → Option Nat} {a1 : Int32} {a2 : Int32} {a3 : Int32} {a4 : Int32} {Q : Int32 → (Nat → Nat → Int32) → Prop} {V : Nat → Nat → Int32} (hw : wX6_value_17 t a1 a2 a3 a4 Q V) : J G l MX6_value d c n 17 [(0, .ref t), (1, .int a1), (2, .int a2), (3, .int a3), (4, .int a4)] [.ref t] (mk sh V R) (jWr sh R Q) jNo := by
  unfold wX6_value_17 at hw
  refine J.iconst (v := (1 : Int32)) dX6_value_17 (by decide) ?_
  refine J.goto 37 dX6_value_18 (by decide) ?_
  exact (rX6_value_37 htr hdd hT hw)
def wX6_value (t : Nat) (V : Nat → Nat → Int32) (a1 : Int32) (a2 : Int32) (a3 : Int32) (a4 : Int32) (Q : Int32 → (Nat → Nat → Int32) → Prop) : Prop :=
  wX6_isHost t V a1 (fun r3 => ((r3 = 0 → wX6_value_17 t a1 a2 a3 a4 Q V) ∧ (¬ r3 = 0 → wX6_isGuest t V a2 (fun r11 => ((¬ r11 = 0 → wX6_isIn a4 (0 : Int32) (9 : Int32) (fun r26 => ((¬ r26 = 0 → wX6_value_37 t a1 a2 a3 a4 Q V (0 : Int32)) ∧ (r26 = 0 → wX6_value_37 t a1 a2 a3 a4 Q V (2 : Int32))))) ∧ (r11 = 0 → wX6_value_17 t a1 a2 a3 a4 Q V))))))
theorem mX6_value {G : jG} {l : Launch} (htr : l.stackTraces = false) {sh : List jH} {V : Nat → Nat → Int32} {R : Nat → Nat → Option Nat} {t : Nat} (hT : jReg shX6 sh t) {a1 : Int32} {a2 : Int32} {a3 : Int32} {a4 : Int32} {Q : Int32 → (Nat → Nat → Int32) → Prop} (hw : wX6_value t V a1 a2 a3 a4 Q) : JM G l MX6_value 2 0 0 [.ref t, .int a1, .int a2, .int a3, .int a4] (mk sh V R) (jWr sh R Q) jNo := by
  refine JM.intro (by decide) rfl htr (Nat.le_of_ble_eq_true rfl) ?_
  show J G l MX6_value 2 0 0 0 [(0, .ref t), (1, .int a1), (2, .int a2), (3, .int a3), (4, .int a4)] [] (mk sh V R) _ _
  unfold wX6_value at hw
  refine J.aload_n 0 dX6_value_0 rfl ?_
  refine J.aload_n 0 dX6_value_1 rfl ?_
  refine J.iload_n 1 dX6_value_2 rfl ?_
  refine kX6_310 rfl htr hT dX6_value_3 (by omega) (Nat.le_of_ble_eq_true rfl) hw (fun r3 hw => ?_)
  refine J.if_eq 17 dX6_value_6 (by decide) ⟨fun c6 => ?_, fun c6 => ?_⟩
  · have hw := hw.1 c6
    exact (rX6_value_17 htr (Nat.le_refl _) hT hw)
  · have hw := hw.2 c6
    refine J.aload_n 0 dX6_value_9 rfl ?_
    refine J.iload_n 2 dX6_value_10 rfl ?_
    refine kX6_322 rfl htr hT dX6_value_11 (by omega) (Nat.le_of_ble_eq_true rfl) hw (fun r11 hw => ?_)
    refine J.if_ne 21 dX6_value_14 (by decide) ⟨fun c14 => ?_, fun c14 => ?_⟩
    · have hw := hw.1 c14
      refine J.iload 4 dX6_value_21 rfl ?_
      refine J.iconst (v := (0 : Int32)) dX6_value_23 (by decide) ?_
      refine J.bipush (v := (9 : Int32)) dX6_value_24 (by decide) ?_
      refine kX6_57 rfl htr dX6_value_26 (by omega) (Nat.le_of_ble_eq_true rfl) hw (fun r26 hw => ?_)
      refine J.if_ne 36 dX6_value_29 (by decide) ⟨fun c29 => ?_, fun c29 => ?_⟩
      · have hw := hw.1 c29
        refine J.iconst (v := (0 : Int32)) dX6_value_36 (by decide) ?_
        exact (rX6_value_37 htr (Nat.le_refl _) hT hw)
      · have hw := hw.2 c29
        refine J.iconst (v := (2 : Int32)) dX6_value_32 (by decide) ?_
        refine J.goto 37 dX6_value_33 (by decide) ?_
        exact (rX6_value_37 htr (Nat.le_refl _) hT hw)
    · have hw := hw.2 c14
      exact (rX6_value_17 htr (Nat.le_refl _) hT hw)
-- VisitingHoursModel.waits(II)I
abbrev MX6_waits : jM := (yX6_waits, cX6_waits, 5, some .int, [])
def wX6_waits_27 (t : Nat) (a1 : Int32) (a2 : Int32) (Q : Int32 → (Nat → Nat → Int32) → Prop) (V : Nat → Nat → Int32) (s1 : Int32) : Prop :=
  ((((vset V t 0 s1) t 0) ≤ 0 → wX6_power (100 : Int32) a1 (fun r42 => wX6_power ((vset V t 0 s1) (t + 1) 5) a1 (fun r52 => (∀ z56 : Int64, z56 = (r42 - r52) → (((2 : Int32) ≤ a1 → wX6_power (100 : Int32) (a1 - (2 : Int32)) (fun r84 => (¬ r84 = 0 ∧ Q ((z56 / r84).toInt32) (vset V t 0 s1)))) ∧ (¬ (2 : Int32) ≤ a1 → wX6_power (100 : Int32) a1 (fun r70 => (¬ r70 = 0 ∧ Q ((((10000 : Int64) * z56) / r70).toInt32) (vset V t 0 s1))))))))) ∧ (¬ ((vset V t 0 s1) t 0) ≤ 0 → Q (0 : Int32) (vset V t 0 s1)))
theorem rX6_waits_27 {G : jG} {l : Launch} {d c n : Nat} (htr : l.stackTraces = false) (hdd : 2 ≤ d) {sh : List jH} {t : Nat} (hT : jReg shX6 sh t) {R : Nat → Nat → Option Nat} {a1 : Int32} {a2 : Int32} {Q : Int32 → (Nat → Nat → Int32) → Prop} {V : Nat → Nat → Int32} {s1 : Int32} (hw : wX6_waits_27 t a1 a2 Q V s1) : J G l MX6_waits d c n 27 [(0, .ref t), (1, .int a1)] [.int s1, .ref t] (mk sh V R) (jWr sh R Q) jNo := by
  unfold wX6_waits_27 at hw
  refine pX6_54 rfl hT dX6_waits_27 ?_
  refine J.aload_n 0 dX6_waits_30 rfl ?_
  refine gX6_54 rfl hT dX6_waits_31 ?_
  refine J.if_le 39 dX6_waits_34 (by decide) ⟨fun c34 => ?_, fun c34 => ?_⟩
  · have hw := hw.1 c34
    refine J.bipush (v := (100 : Int32)) dX6_waits_39 (by decide) ?_
    refine J.iload_n 1 dX6_waits_41 rfl ?_
    refine kX6_409 rfl htr dX6_waits_42 (by omega) (Nat.le_of_ble_eq_true rfl) hw (fun r42 hw => ?_)
    refine J.aload_n 0 dX6_waits_45 rfl ?_
    refine gX6_7 rfl hT dX6_waits_46 ?_
    refine J.iconst (v := (5 : Int32)) dX6_waits_49 (by decide) ?_
    refine JV.ialdK 5 dX6_waits_50 (hT.ge 1) (hT.at 1 rfl) rfl (by decide) (by decide) ?_
    refine J.iload_n 1 dX6_waits_51 rfl ?_
    refine kX6_409 rfl htr dX6_waits_52 (by omega) (Nat.le_of_ble_eq_true rfl) hw (fun r52 hw => ?_)
    refine J.lsub dX6_waits_55 ?_
    refine J.nmL hw (fun z56 hw => ?_)
    refine J.lstore_n (lv' := [(3, .long z56), (0, .ref t), (1, .int a1)]) dX6_waits_56 (by decide) rfl ?_
    refine J.iload_n 2 dX6_waits_57 rfl ?_
    refine J.iconst (v := (2 : Int32)) dX6_waits_58 (by decide) ?_
    refine J.icmp_ge 78 dX6_waits_59 (by decide) ⟨fun c59 => ?_, fun c59 => ?_⟩
    · have hw := hw.1 c59
      refine J.lload_n 0 dX6_waits_78 rfl ?_
      refine J.bipush (v := (100 : Int32)) dX6_waits_79 (by decide) ?_
      refine J.iload_n 2 dX6_waits_81 rfl ?_
      refine J.iconst (v := (2 : Int32)) dX6_waits_82 (by decide) ?_
      refine J.isub dX6_waits_83 ?_
      refine kX6_409 rfl htr dX6_waits_84 (by omega) (Nat.le_of_ble_eq_true rfl) hw (fun r84 hw => ?_)
      obtain ⟨h87, hw⟩ := hw
      refine J.ldiv dX6_waits_87 h87 ?_
      refine J.l2i dX6_waits_88 ?_
      exact J.iret rfl dX6_waits_89 ⟨_, rfl, _, rfl, hw⟩
    · have hw := hw.2 c59
      refine J.ldc2 (v := (10000 : Int64)) dX6_waits_62 q2691 ?_
      refine J.lload_n 0 dX6_waits_65 rfl ?_
      refine J.lmul dX6_waits_66 ?_
      refine J.bipush (v := (100 : Int32)) dX6_waits_67 (by decide) ?_
      refine J.iload_n 2 dX6_waits_69 rfl ?_
      refine kX6_409 rfl htr dX6_waits_70 (by omega) (Nat.le_of_ble_eq_true rfl) hw (fun r70 hw => ?_)
      obtain ⟨h73, hw⟩ := hw
      refine J.ldiv dX6_waits_73 h73 ?_
      refine J.l2i dX6_waits_74 ?_
      refine J.goto 89 dX6_waits_75 (by decide) ?_
      exact J.iret rfl dX6_waits_89 ⟨_, rfl, _, rfl, hw⟩
  · have hw := hw.2 c34
    refine J.iconst (v := (0 : Int32)) dX6_waits_37 (by decide) ?_
    exact J.iret rfl dX6_waits_38 ⟨_, rfl, _, rfl, hw⟩
def wX6_waits (t : Nat) (V : Nat → Nat → Int32) (a1 : Int32) (a2 : Int32) (Q : Int32 → (Nat → Nat → Int32) → Prop) : Prop :=
  wX6_isQuarter a2 (fun r2 => ((¬ r2 = 0 → wX6_isIn a1 (0 : Int32) (8 : Int32) (fun r16 => ((¬ r16 = 0 → wX6_waits_27 t a1 a2 Q V (0 : Int32)) ∧ (r16 = 0 → wX6_waits_27 t a1 a2 Q V (2 : Int32))))) ∧ (r2 = 0 → wX6_waits_27 t a1 a2 Q V (1 : Int32))))
theorem mX6_waits {G : jG} {l : Launch} (htr : l.stackTraces = false) {sh : List jH} {V : Nat → Nat → Int32} {R : Nat → Nat → Option Nat} {t : Nat} (hT : jReg shX6 sh t) {a1 : Int32} {a2 : Int32} {Q : Int32 → (Nat → Nat → Int32) → Prop} (hw : wX6_waits t V a1 a2 Q) : JM G l MX6_waits 2 0 0 [.ref t, .int a1, .int a2] (mk sh V R) (jWr sh R Q) jNo := by
  refine JM.intro (by decide) rfl htr (Nat.le_of_ble_eq_true rfl) ?_
  show J G l MX6_waits 2 0 0 0 [(0, .ref t), (1, .int a1), (2, .int a2)] [] (mk sh V R) _ _
  unfold wX6_waits at hw
  refine J.aload_n 0 dX6_waits_0 rfl ?_
  refine J.iload_n 2 dX6_waits_1 rfl ?_
  refine kX6_331 rfl htr dX6_waits_2 (by omega) (Nat.le_of_ble_eq_true rfl) hw (fun r2 hw => ?_)
  refine J.if_ne 12 dX6_waits_5 (by decide) ⟨fun c5 => ?_, fun c5 => ?_⟩
  · have hw := hw.1 c5
    refine J.iload_n 1 dX6_waits_12 rfl ?_
    refine J.iconst (v := (0 : Int32)) dX6_waits_13 (by decide) ?_
    refine J.bipush (v := (8 : Int32)) dX6_waits_14 (by decide) ?_
    refine kX6_57 rfl htr dX6_waits_16 (by omega) (Nat.le_of_ble_eq_true rfl) hw (fun r16 hw => ?_)
    refine J.if_ne 26 dX6_waits_19 (by decide) ⟨fun c19 => ?_, fun c19 => ?_⟩
    · have hw := hw.1 c19
      refine J.iconst (v := (0 : Int32)) dX6_waits_26 (by decide) ?_
      exact J.pick [0, 1] rfl (rX6_waits_27 htr (Nat.le_refl _) hT hw)
    · have hw := hw.2 c19
      refine J.iconst (v := (2 : Int32)) dX6_waits_22 (by decide) ?_
      refine J.goto 27 dX6_waits_23 (by decide) ?_
      exact J.pick [0, 1] rfl (rX6_waits_27 htr (Nat.le_refl _) hT hw)
  · have hw := hw.2 c5
    refine J.iconst (v := (1 : Int32)) dX6_waits_8 (by decide) ?_
    refine J.goto 27 dX6_waits_9 (by decide) ?_
    exact J.pick [0, 1] rfl (rX6_waits_27 htr (Nat.le_refl _) hT hw)
theorem kX6_369 {G : jG} {l : Launch} {M : jM} {d c n pc : Nat} {lv : List (Nat × Value)} {rest : List Value} {post : Option Value → List jC → Prop} {xp : String → List jC → Prop} (hM : M.1.cls = RX6) (htr : l.stackTraces = false) {sh : List jH} {V : Nat → Nat → Int32} {R : Nat → Nat → Option Nat} {t : Nat} (hT : jReg shX6 sh t) {a1 : Int32} {a2 : Int32} {a3 : Int32} {Q : Int32 → (Nat → Nat → Int32) → Prop} (hd : decode M.2.1 pc = .ok (.invokevirtual 369, 3)) (hdd : 3 + 1 ≤ d) (hw8 : (rest.map fun v => v.category).sum ≤ 8) (hw : wX6_isWay t V a1 a2 a3 Q) (kk : ∀ r V', Q r V' → J G l M d c n (pc + 3) lv (.int r :: rest) (mk sh V' R) post xp) : J G l M d c n pc lv (.int a3 :: .int a2 :: .int a1 :: .ref t :: rest) (mk sh V R) post xp :=
  J.callV (As := [.int a1, .int a2, .int a3]) (hcw := by rw [hM]; exact lw_V q2601 q2603 qs128 q152 q2604) (mX6_isWay htr hT hw) hd rfl ⟨5, _, _, mk_at (hT.at 0 rfl), rfl, rfl, fun _ => rfl⟩ ⟨rfl, by decide, by decide, by show _ = some 3; decide +kernel⟩ hw8 ⟨hdd, by decide⟩ jcc0 (fun r9 g9 h9 => by obtain ⟨V9, rfl, r, rfl, h⟩ := h9; exact kk r V9 h) jNo.x
-- VisitingHoursModel.ways()I
abbrev MX6_ways : jM := (yX6_ways, cX6_ways, 6, some .int, [])
def wX6_ways_82 (t : Nat) (Q : Int32 → (Nat → Nat → Int32) → Prop) : Nat → (Nat → Nat → Int32) → Int32 → Int32 → Int32 → Int32 → Int32 → Prop
  | 0, _, _, _, _, _, _ => False
  | f + 1, V, x1, x2, x3, x4, x5 =>
    ((x3 ≤ x5 → Q x4 V) ∧ (¬ x3 ≤ x5 → wX6_isWay t V x5 x1 x2 (fun r95 V95 => ((r95 = 0 → (∀ y107 : Int32, y107 = (x4 + (0 : Int32)) → (∀ y109 : Int32, y109 = x5 + (1 : Int32) → wX6_ways_82 t Q f V95 x1 x2 x3 y107 y109))) ∧ (¬ r95 = 0 → (∀ y107 : Int32, y107 = (x4 + (1 : Int32)) → (∀ y109 : Int32, y109 = x5 + (1 : Int32) → wX6_ways_82 t Q f V95 x1 x2 x3 y107 y109)))))))
theorem rX6_ways_82 {G : jG} {l : Launch} {d c n : Nat} (htr : l.stackTraces = false) (hdd : 4 ≤ d) {sh : List jH} {t : Nat} (hT : jReg shX6 sh t) {R : Nat → Nat → Option Nat} {Q : Int32 → (Nat → Nat → Int32) → Prop} : ∀ (f : Nat) (V : Nat → Nat → Int32) (x1 : Int32) (x2 : Int32) (x3 : Int32) (x4 : Int32) (x5 : Int32), wX6_ways_82 t Q f V x1 x2 x3 x4 x5 → J G l MX6_ways d c n 82 [(0, .ref t), (1, .int x1), (2, .int x2), (3, .int x3), (4, .int x4), (5, .int x5)] [] (mk sh V R) (jWr sh R Q) jNo := by
  intro f
  induction f with
  | zero =>
    intro V x1 x2 x3 x4 x5 hw
    rw [wX6_ways_82] at hw
    exact hw.elim
  | succ f ih =>
    intro V x1 x2 x3 x4 x5 hw
    rw [wX6_ways_82] at hw
    refine J.iload 5 dX6_ways_82 rfl ?_
    refine J.iload_n 3 dX6_ways_84 rfl ?_
    refine J.icmp_ge 115 dX6_ways_85 (by decide) ⟨fun c85 => ?_, fun c85 => ?_⟩
    · have hw := hw.1 c85
      refine J.iload 4 dX6_ways_115 rfl ?_
      exact J.iret rfl dX6_ways_117 ⟨_, rfl, _, rfl, hw⟩
    · have hw := hw.2 c85
      refine J.iload 4 dX6_ways_88 rfl ?_
      refine J.aload_n 0 dX6_ways_90 rfl ?_
      refine J.iload 5 dX6_ways_91 rfl ?_
      refine J.iload_n 1 dX6_ways_93 rfl ?_
      refine J.iload_n 2 dX6_ways_94 rfl ?_
      refine kX6_369 rfl htr hT dX6_ways_95 (by omega) (Nat.le_of_ble_eq_true rfl) hw (fun r95 V95 hw => ?_)
      refine J.if_eq 105 dX6_ways_98 (by decide) ⟨fun c98 => ?_, fun c98 => ?_⟩
      · have hw := hw.1 c98
        refine J.iconst (v := (0 : Int32)) dX6_ways_105 (by decide) ?_
        refine J.iadd dX6_ways_106 ?_
        refine J.nm hw (fun y107 hw => ?_)
        refine J.istore (lv' := [(4, .int y107), (0, .ref t), (1, .int x1), (2, .int x2), (3, .int x3), (5, .int x5)]) dX6_ways_107 (by decide) rfl ?_
        refine J.iincN 5 (K := (1 : Int32)) (lv' := fun y109 => [(5, .int y109), (4, .int y107), (0, .ref t), (1, .int x1), (2, .int x2), (3, .int x3)]) dX6_ways_109 rfl (by decide) (by decide) (fun _ => rfl) hw (fun y109 hw => ?_)
        refine J.goto 82 dX6_ways_112 (by decide) ?_
        exact J.pick [2, 3, 4, 5, 1, 0] rfl (ih _ _ _ _ _ _ hw)
      · have hw := hw.2 c98
        refine J.iconst (v := (1 : Int32)) dX6_ways_101 (by decide) ?_
        refine J.goto 106 dX6_ways_102 (by decide) ?_
        refine J.iadd dX6_ways_106 ?_
        refine J.nm hw (fun y107 hw => ?_)
        refine J.istore (lv' := [(4, .int y107), (0, .ref t), (1, .int x1), (2, .int x2), (3, .int x3), (5, .int x5)]) dX6_ways_107 (by decide) rfl ?_
        refine J.iincN 5 (K := (1 : Int32)) (lv' := fun y109 => [(5, .int y109), (4, .int y107), (0, .ref t), (1, .int x1), (2, .int x2), (3, .int x3)]) dX6_ways_109 rfl (by decide) (by decide) (fun _ => rfl) hw (fun y109 hw => ?_)
        refine J.goto 82 dX6_ways_112 (by decide) ?_
        exact J.pick [2, 3, 4, 5, 1, 0] rfl (ih _ _ _ _ _ _ hw)
def wX6_ways_19 (t : Nat) (Q : Int32 → (Nat → Nat → Int32) → Prop) : Nat → (Nat → Nat → Int32) → Int32 → Int32 → Int32 → Int32 → Prop
  | 0, _, _, _, _, _ => False
  | f + 1, V, x1, x2, x3, x4 =>
    (((V (t + 1) 3) ≤ x4 → (∃ f9, wX6_ways_82 t Q f9 V x1 x2 x3 (0 : Int32) (0 : Int32))) ∧ (¬ (V (t + 1) 3) ≤ x4 → (vp_in x4 8 ∧ ((¬ (V (t + 7) x4.toNatClampNeg) = (-1 : Int32) → (∀ y50 : Int32, y50 = (x1 ||| ((1 : Int32) <<< (x4 &&& 31))) → (vp_in x4 8 ∧ (∀ y62 : Int32, y62 = (x2 ||| ((1 : Int32) <<< ((V (t + 7) x4.toNatClampNeg) &&& 31))) → wX6_bits y50 (fun r65 => (∀ y69 : Int32, y69 = (x3 * r65) → (∀ y70 : Int32, y70 = x4 + (1 : Int32) → wX6_ways_19 t Q f V y50 y62 y69 y70))))))) ∧ ((V (t + 7) x4.toNatClampNeg) = (-1 : Int32) → (∀ y70 : Int32, y70 = x4 + (1 : Int32) → wX6_ways_19 t Q f V x1 x2 x3 y70))))))
theorem rX6_ways_19 {G : jG} {l : Launch} {d c n : Nat} (htr : l.stackTraces = false) (hdd : 4 ≤ d) {sh : List jH} {t : Nat} (hT : jReg shX6 sh t) {R : Nat → Nat → Option Nat} {Q : Int32 → (Nat → Nat → Int32) → Prop} : ∀ (f : Nat) (V : Nat → Nat → Int32) (x1 : Int32) (x2 : Int32) (x3 : Int32) (x4 : Int32), wX6_ways_19 t Q f V x1 x2 x3 x4 → J G l MX6_ways d c n 19 [(0, .ref t), (1, .int x1), (2, .int x2), (3, .int x3), (4, .int x4)] [] (mk sh V R) (jWr sh R Q) jNo := by
  intro f
  induction f with
  | zero =>
    intro V x1 x2 x3 x4 hw
    rw [wX6_ways_19] at hw
    exact hw.elim
  | succ f ih =>
    intro V x1 x2 x3 x4 hw
    rw [wX6_ways_19] at hw
    refine J.iload 4 dX6_ways_19 rfl ?_
    refine J.aload_n 0 dX6_ways_21 rfl ?_
    refine gX6_7 rfl hT dX6_ways_22 ?_
    refine J.iconst (v := (3 : Int32)) dX6_ways_25 (by decide) ?_
    refine JV.ialdK 3 dX6_ways_26 (hT.ge 1) (hT.at 1 rfl) rfl (by decide) (by decide) ?_
    refine J.icmp_ge 76 dX6_ways_27 (by decide) ⟨fun c27 => ?_, fun c27 => ?_⟩
    · have hw := hw.1 c27
      refine J.iconst (v := (0 : Int32)) dX6_ways_76 (by decide) ?_
      refine J.istore (lv' := [(4, .int (0 : Int32)), (0, .ref t), (1, .int x1), (2, .int x2), (3, .int x3)]) dX6_ways_77 (by decide) rfl ?_
      refine J.iconst (v := (0 : Int32)) dX6_ways_79 (by decide) ?_
      refine J.istore (lv' := [(5, .int (0 : Int32)), (4, .int (0 : Int32)), (0, .ref t), (1, .int x1), (2, .int x2), (3, .int x3)]) dX6_ways_80 (by decide) rfl ?_
      obtain ⟨f9, hw⟩ := hw
      exact J.pick [2, 3, 4, 5, 1, 0] rfl (rX6_ways_82 htr hdd hT f9 _ _ _ _ _ _ hw)
    · have hw := hw.2 c27
      refine J.aload_n 0 dX6_ways_30 rfl ?_
      refine gX6_32 rfl hT dX6_ways_31 ?_
      refine J.iload 4 dX6_ways_34 rfl ?_
      obtain ⟨h36, hw⟩ := hw
      refine JV.iald dX6_ways_36 (hT.ge 7) (hT.at 7 rfl) h36 ?_
      refine J.iconst (v := (-1 : Int32)) dX6_ways_37 (by decide) ?_
      refine J.icmp_ne 44 dX6_ways_38 (by decide) ⟨fun c38 => ?_, fun c38 => ?_⟩
      · have hw := hw.1 c38
        refine J.iload_n 1 dX6_ways_44 rfl ?_
        refine J.iconst (v := (1 : Int32)) dX6_ways_45 (by decide) ?_
        refine J.iload 4 dX6_ways_46 rfl ?_
        refine J.ishl dX6_ways_48 ?_
        refine J.ior dX6_ways_49 ?_
        refine J.nm hw (fun y50 hw => ?_)
        refine J.istore_n (lv' := [(1, .int y50), (0, .ref t), (2, .int x2), (3, .int x3), (4, .int x4)]) dX6_ways_50 (by decide) rfl ?_
        refine J.iload_n 2 dX6_ways_51 rfl ?_
        refine J.iconst (v := (1 : Int32)) dX6_ways_52 (by decide) ?_
        refine J.aload_n 1 dX6_ways_53 rfl ?_
        refine gX6_32 rfl hT dX6_ways_54 ?_
        refine J.iload 4 dX6_ways_57 rfl ?_
        obtain ⟨h59, hw⟩ := hw
        refine JV.iald dX6_ways_59 (hT.ge 7) (hT.at 7 rfl) h59 ?_
        refine J.ishl dX6_ways_60 ?_
        refine J.ior dX6_ways_61 ?_
        refine J.nm hw (fun y62 hw => ?_)
        refine J.istore_n (lv' := [(2, .int y62), (1, .int y50), (0, .ref t), (3, .int x3), (4, .int x4)]) dX6_ways_62 (by decide) rfl ?_
        refine J.iload_n 3 dX6_ways_63 rfl ?_
        refine J.iload_n 1 dX6_ways_64 rfl ?_
        refine kX6_303 rfl htr dX6_ways_65 (by omega) (Nat.le_of_ble_eq_true rfl) hw (fun r65 hw => ?_)
        refine J.imul dX6_ways_68 ?_
        refine J.nm hw (fun y69 hw => ?_)
        refine J.istore_n (lv' := [(3, .int y69), (2, .int y62), (1, .int y50), (0, .ref t), (4, .int x4)]) dX6_ways_69 (by decide) rfl ?_
        refine J.iincN 4 (K := (1 : Int32)) (lv' := fun y70 => [(4, .int y70), (3, .int y69), (2, .int y62), (1, .int y50), (0, .ref t)]) dX6_ways_70 rfl (by decide) (by decide) (fun _ => rfl) hw (fun y70 hw => ?_)
        refine J.goto 19 dX6_ways_73 (by decide) ?_
        exact J.pick [4, 3, 2, 1, 0] rfl (ih _ _ _ _ _ hw)
      · have hw := hw.2 c38
        refine J.goto 70 dX6_ways_41 (by decide) ?_
        refine J.iincN 4 (K := (1 : Int32)) (lv' := fun y70 => [(4, .int y70), (0, .ref t), (1, .int x1), (2, .int x2), (3, .int x3)]) dX6_ways_70 rfl (by decide) (by decide) (fun _ => rfl) hw (fun y70 hw => ?_)
        refine J.goto 19 dX6_ways_73 (by decide) ?_
        exact J.pick [1, 2, 3, 4, 0] rfl (ih _ _ _ _ _ hw)
def wX6_ways (t : Nat) (V : Nat → Nat → Int32) (Q : Int32 → (Nat → Nat → Int32) → Prop) : Prop :=
  wX6_pairs t (vset V t 0 (0 : Int32)) (1 : Int32) (fun V7 => (∃ f9, wX6_ways_19 t Q f9 V7 (0 : Int32) (0 : Int32) (1 : Int32) (0 : Int32)))
theorem mX6_ways {G : jG} {l : Launch} (htr : l.stackTraces = false) {sh : List jH} {V : Nat → Nat → Int32} {R : Nat → Nat → Option Nat} {t : Nat} (hT : jReg shX6 sh t) {Q : Int32 → (Nat → Nat → Int32) → Prop} (hw : wX6_ways t V Q) : JM G l MX6_ways 4 0 0 [.ref t] (mk sh V R) (jWr sh R Q) jNo := by
  refine JM.intro (by decide) rfl htr (Nat.le_of_ble_eq_true rfl) ?_
  show J G l MX6_ways 4 0 0 0 [(0, .ref t)] [] (mk sh V R) _ _
  unfold wX6_ways at hw
  refine J.aload_n 0 dX6_ways_0 rfl ?_
  refine J.iconst (v := (0 : Int32)) dX6_ways_1 (by decide) ?_
  refine pX6_54 rfl hT dX6_ways_2 ?_
  refine J.aload_n 0 dX6_ways_5 rfl ?_
  refine J.iconst (v := (1 : Int32)) dX6_ways_6 (by decide) ?_
  refine kX6_365 rfl htr hT dX6_ways_7 (by omega) (Nat.le_of_ble_eq_true rfl) hw (fun V7 hw => ?_)
  refine J.iconst (v := (0 : Int32)) dX6_ways_10 (by decide) ?_
  refine J.istore_n (lv' := [(1, .int (0 : Int32)), (0, .ref t)]) dX6_ways_11 (by decide) rfl ?_
  refine J.iconst (v := (0 : Int32)) dX6_ways_12 (by decide) ?_
  refine J.istore_n (lv' := [(2, .int (0 : Int32)), (1, .int (0 : Int32)), (0, .ref t)]) dX6_ways_13 (by decide) rfl ?_
  refine J.iconst (v := (1 : Int32)) dX6_ways_14 (by decide) ?_
  refine J.istore_n (lv' := [(3, .int (1 : Int32)), (2, .int (0 : Int32)), (1, .int (0 : Int32)), (0, .ref t)]) dX6_ways_15 (by decide) rfl ?_
  refine J.iconst (v := (0 : Int32)) dX6_ways_16 (by decide) ?_
  refine J.istore (lv' := [(4, .int (0 : Int32)), (3, .int (1 : Int32)), (2, .int (0 : Int32)), (1, .int (0 : Int32)), (0, .ref t)]) dX6_ways_17 (by decide) rfl ?_
  obtain ⟨f9, hw⟩ := hw
  exact J.pick [4, 3, 2, 1, 0] rfl (rX6_ways_19 htr (Nat.le_refl _) hT f9 _ _ _ _ _ hw)
-- VisitingHoursModel.wrong(I)V
abbrev MX6_wrong : jM := (yX6_wrong, cX6_wrong, 2, none, [])
def wX6_wrong (t : Nat) (V : Nat → Nat → Int32) (a1 : Int32) (Q : (Nat → Nat → Int32) → Prop) : Prop :=
  ((¬ (V t 12) = (-1 : Int32) → Q V) ∧ ((V t 12) = (-1 : Int32) → Q (vset V t 12 a1)))
theorem mX6_wrong {G : jG} {l : Launch} (htr : l.stackTraces = false) {sh : List jH} {V : Nat → Nat → Int32} {R : Nat → Nat → Option Nat} {t : Nat} (hT : jReg shX6 sh t) {a1 : Int32} {Q : (Nat → Nat → Int32) → Prop} (hw : wX6_wrong t V a1 Q) : JM G l MX6_wrong 0 0 0 [.ref t, .int a1] (mk sh V R) (jWv sh R Q) jNo := by
  refine JM.intro (by decide) rfl htr (Nat.le_of_ble_eq_true rfl) ?_
  show J G l MX6_wrong 0 0 0 0 [(0, .ref t), (1, .int a1)] [] (mk sh V R) _ _
  unfold wX6_wrong at hw
  refine J.aload_n 0 dX6_wrong_0 rfl ?_
  refine gX6_25 rfl hT dX6_wrong_1 ?_
  refine J.iconst (v := (-1 : Int32)) dX6_wrong_4 (by decide) ?_
  refine J.icmp_ne 13 dX6_wrong_5 (by decide) ⟨fun c5 => ?_, fun c5 => ?_⟩
  · have hw := hw.1 c5
    exact J.vret rfl dX6_wrong_13 ⟨_, rfl, rfl, hw⟩
  · have hw := hw.2 c5
    refine J.aload_n 0 dX6_wrong_8 rfl ?_
    refine J.iload_n 1 dX6_wrong_9 rfl ?_
    refine pX6_25 rfl hT dX6_wrong_10 ?_
    exact J.vret rfl dX6_wrong_13 ⟨_, rfl, rfl, hw⟩
theorem gX6_87 {G : jG} {l : Launch} {M : jM} {d c n pc : Nat} {lv : List (Nat × Value)} {st : List Value} {sh : List jH} {V : Nat → Nat → Int32} {R : Nat → Nat → Option Nat} {post : Option Value → List jC → Prop} {xp : String → List jC → Prop} {t : Nat} (hM : M.1.cls = RX6) (hT : jReg shX6 sh t) (hd : decode M.2.1 pc = .ok (.getfield 87, 3)) (kk : J G l M d c n (pc + 3) lv (.int (V t 11) :: st) (mk sh V R) post xp) : J G l M d c n pc lv (.ref t :: st) (mk sh V R) post xp := JV.getf (C := RX6) (T0 := TX6) (N := 28) 11 hd hT.1 (hT.at 0 rfl) rfl in_X6 (by decide) (by rw [hM]; exact q2139) rfl rfl kk
theorem gX6_90 {G : jG} {l : Launch} {M : jM} {d c n pc : Nat} {lv : List (Nat × Value)} {st : List Value} {sh : List jH} {V : Nat → Nat → Int32} {R : Nat → Nat → Option Nat} {post : Option Value → List jC → Prop} {xp : String → List jC → Prop} {t : Nat} (hM : M.1.cls = RX6) (hT : jReg shX6 sh t) (hd : decode M.2.1 pc = .ok (.getfield 90, 3)) (kk : J G l M d c n (pc + 3) lv (.int (V t 10) :: st) (mk sh V R) post xp) : J G l M d c n pc lv (.ref t :: st) (mk sh V R) post xp := JV.getf (C := RX6) (T0 := TX6) (N := 28) 10 hd hT.1 (hT.at 0 rfl) rfl in_X6 (by decide) (by rw [hM]; exact q2138) rfl rfl kk
theorem kX6_93 {G : jG} {l : Launch} {M : jM} {d c n pc : Nat} {lv : List (Nat × Value)} {rest : List Value} {post : Option Value → List jC → Prop} {xp : String → List jC → Prop} (hM : M.1.cls = RX6) (htr : l.stackTraces = false) {sh : List jH} {V : Nat → Nat → Int32} {R : Nat → Nat → Option Nat} {t : Nat} (hT : jReg shX6 sh t) {a1 : Int32} {Q : Int32 → Prop} (hd : decode M.2.1 pc = .ok (.invokevirtual 93, 3)) (hdd : 0 + 1 ≤ d) (hw8 : (rest.map fun v => v.category).sum ≤ 8) (hw : wX6_letter t V a1 Q) (kk : ∀ r, Q r → J G l M d c n (pc + 3) lv (.int r :: rest) (mk sh V R) post xp) : J G l M d c n pc lv (.int a1 :: .ref t :: rest) (mk sh V R) post xp :=
  J.callV (As := [.int a1]) (hcw := by rw [hM]; exact lw_V q2249 q2251 qs73 q152 q2252) (mX6_letter htr hT hw) hd rfl ⟨5, _, _, mk_at (hT.at 0 rfl), rfl, rfl, fun _ => rfl⟩ ⟨rfl, by decide, by decide, by show _ = some 1; decide +kernel⟩ hw8 ⟨hdd, by decide⟩ jcc0 (fun r9 g9 h9 => by obtain ⟨rfl, r, rfl, h⟩ := h9; exact kk r h) jNo.x
-- VisitingHoursModel.skip()V
abbrev MX6_skip : jM := (yX6_skip, cX6_skip, 1, none, [])
def wX6_skip_0 (t : Nat) (Q : (Nat → Nat → Int32) → Prop) : Nat → (Nat → Nat → Int32) → Prop
  | 0, _ => False
  | f + 1, V =>
    (((V t 10) ≤ (V t 11) → Q V) ∧ (¬ (V t 10) ≤ (V t 11) → wX6_letter t V (V t 11) (fun r16 => ((¬ r16 = (32 : Int32) → Q V) ∧ (r16 = (32 : Int32) → (∀ y31 : Int32, y31 = ((V t 11) + (1 : Int32)) → wX6_skip_0 t Q f (vset V t 11 y31)))))))
theorem rX6_skip_0 {G : jG} {l : Launch} {d c n : Nat} (htr : l.stackTraces = false) (hdd : 1 ≤ d) {sh : List jH} {t : Nat} (hT : jReg shX6 sh t) {R : Nat → Nat → Option Nat} {Q : (Nat → Nat → Int32) → Prop} : ∀ (f : Nat) (V : Nat → Nat → Int32), wX6_skip_0 t Q f V → J G l MX6_skip d c n 0 [(0, .ref t)] [] (mk sh V R) (jWv sh R Q) jNo := by
  intro f
  induction f with
  | zero =>
    intro V hw
    rw [wX6_skip_0] at hw
    exact hw.elim
  | succ f ih =>
    intro V hw
    rw [wX6_skip_0] at hw
    refine J.aload_n 0 dX6_skip_0 rfl ?_
    refine gX6_87 rfl hT dX6_skip_1 ?_
    refine J.aload_n 0 dX6_skip_4 rfl ?_
    refine gX6_90 rfl hT dX6_skip_5 ?_
    refine J.icmp_ge 37 dX6_skip_8 (by decide) ⟨fun c8 => ?_, fun c8 => ?_⟩
    · have hw := hw.1 c8
      exact J.vret rfl dX6_skip_37 ⟨_, rfl, rfl, hw⟩
    · have hw := hw.2 c8
      refine J.aload_n 0 dX6_skip_11 rfl ?_
      refine J.aload_n 0 dX6_skip_12 rfl ?_
      refine gX6_87 rfl hT dX6_skip_13 ?_
      refine kX6_93 rfl htr hT dX6_skip_16 (by omega) (Nat.le_of_ble_eq_true rfl) hw (fun r16 hw => ?_)
      refine J.bipush (v := (32 : Int32)) dX6_skip_19 (by decide) ?_
      refine J.icmp_ne 37 dX6_skip_21 (by decide) ⟨fun c21 => ?_, fun c21 => ?_⟩
      · have hw := hw.1 c21
        exact J.vret rfl dX6_skip_37 ⟨_, rfl, rfl, hw⟩
      · have hw := hw.2 c21
        refine J.aload_n 0 dX6_skip_24 rfl ?_
        refine J.dup dX6_skip_25 rfl ?_
        refine gX6_87 rfl hT dX6_skip_26 ?_
        refine J.iconst (v := (1 : Int32)) dX6_skip_29 (by decide) ?_
        refine J.iadd dX6_skip_30 ?_
        refine J.nm hw (fun y31 hw => ?_)
        refine pX6_87 rfl hT dX6_skip_31 ?_
        refine J.goto 0 dX6_skip_34 (by decide) ?_
        exact (ih _ hw)
def wX6_skip (t : Nat) (V : Nat → Nat → Int32) (Q : (Nat → Nat → Int32) → Prop) : Prop :=
  (∃ f9, wX6_skip_0 t Q f9 V)
theorem mX6_skip {G : jG} {l : Launch} (htr : l.stackTraces = false) {sh : List jH} {V : Nat → Nat → Int32} {R : Nat → Nat → Option Nat} {t : Nat} (hT : jReg shX6 sh t) {Q : (Nat → Nat → Int32) → Prop} (hw : wX6_skip t V Q) : JM G l MX6_skip 1 0 0 [.ref t] (mk sh V R) (jWv sh R Q) jNo := by
  refine JM.intro (by decide) rfl htr (Nat.le_of_ble_eq_true rfl) ?_
  show J G l MX6_skip 1 0 0 0 [(0, .ref t)] [] (mk sh V R) _ _
  unfold wX6_skip at hw
  obtain ⟨f9, hw⟩ := hw
  exact (rX6_skip_0 htr (Nat.le_refl _) hT f9 _ hw)
theorem kX6_97 {G : jG} {l : Launch} {M : jM} {d c n pc : Nat} {lv : List (Nat × Value)} {rest : List Value} {post : Option Value → List jC → Prop} {xp : String → List jC → Prop} (hM : M.1.cls = RX6) (htr : l.stackTraces = false) {sh : List jH} {V : Nat → Nat → Int32} {R : Nat → Nat → Option Nat} {t : Nat} (hT : jReg shX6 sh t) {Q : (Nat → Nat → Int32) → Prop} (hd : decode M.2.1 pc = .ok (.invokevirtual 97, 3)) (hdd : 1 + 1 ≤ d) (hw8 : (rest.map fun v => v.category).sum ≤ 8) (hw : wX6_skip t V Q) (kk : ∀ V', Q V' → J G l M d c n (pc + 3) lv rest (mk sh V' R) post xp) : J G l M d c n pc lv (.ref t :: rest) (mk sh V R) post xp :=
  J.callV (As := []) (hcw := by rw [hM]; exact lw_V q2245 q2247 qs72 q152 q2248) (mX6_skip htr hT hw) hd rfl ⟨5, _, _, mk_at (hT.at 0 rfl), rfl, rfl, fun _ => rfl⟩ ⟨rfl, by decide, by decide, by show _ = some 0; decide +kernel⟩ hw8 ⟨hdd, by decide⟩ jcc0 (fun r9 g9 h9 => by obtain ⟨V9, rfl, rfl, h⟩ := h9; exact kk V9 h) jNo.x
-- VisitingHoursModel.here()I
abbrev MX6_here : jM := (yX6_here, cX6_here, 1, some .int, [])
def wX6_here (t : Nat) (V : Nat → Nat → Int32) (Q : Int32 → (Nat → Nat → Int32) → Prop) : Prop :=
  wX6_skip t V (fun V1 => Q (V1 t 11) V1)
theorem mX6_here {G : jG} {l : Launch} (htr : l.stackTraces = false) {sh : List jH} {V : Nat → Nat → Int32} {R : Nat → Nat → Option Nat} {t : Nat} (hT : jReg shX6 sh t) {Q : Int32 → (Nat → Nat → Int32) → Prop} (hw : wX6_here t V Q) : JM G l MX6_here 2 0 0 [.ref t] (mk sh V R) (jWr sh R Q) jNo := by
  refine JM.intro (by decide) rfl htr (Nat.le_of_ble_eq_true rfl) ?_
  show J G l MX6_here 2 0 0 0 [(0, .ref t)] [] (mk sh V R) _ _
  unfold wX6_here at hw
  refine J.aload_n 0 dX6_here_0 rfl ?_
  refine kX6_97 rfl htr hT dX6_here_1 (by omega) (Nat.le_of_ble_eq_true rfl) hw (fun V1 hw => ?_)
  refine J.aload_n 0 dX6_here_4 rfl ?_
  refine gX6_87 rfl hT dX6_here_5 ?_
  exact J.iret rfl dX6_here_8 ⟨_, rfl, _, rfl, hw⟩
-- VisitingHoursModel.isSign(I)Z
abbrev MX6_isSign : jM := (yX6_isSign, cX6_isSign, 2, some .boolean, [])
def wX6_isSign (t : Nat) (V : Nat → Nat → Int32) (a1 : Int32) (Q : Int32 → (Nat → Nat → Int32) → Prop) : Prop :=
  wX6_skip t V (fun V1 => (((V1 t 10) ≤ (V1 t 11) → Q (0 : Int32) V1) ∧ (¬ (V1 t 10) ≤ (V1 t 11) → wX6_letter t V1 (V1 t 11) (fun r20 => ((¬ r20 = a1 → Q (0 : Int32) V1) ∧ (r20 = a1 → Q (1 : Int32) V1))))))
theorem mX6_isSign {G : jG} {l : Launch} (htr : l.stackTraces = false) {sh : List jH} {V : Nat → Nat → Int32} {R : Nat → Nat → Option Nat} {t : Nat} (hT : jReg shX6 sh t) {a1 : Int32} {Q : Int32 → (Nat → Nat → Int32) → Prop} (hw : wX6_isSign t V a1 Q) : JM G l MX6_isSign 2 0 0 [.ref t, .int a1] (mk sh V R) (jWr sh R Q) jNo := by
  refine JM.intro (by decide) rfl htr (Nat.le_of_ble_eq_true rfl) ?_
  show J G l MX6_isSign 2 0 0 0 [(0, .ref t), (1, .int a1)] [] (mk sh V R) _ _
  unfold wX6_isSign at hw
  refine J.aload_n 0 dX6_isSign_0 rfl ?_
  refine kX6_97 rfl htr hT dX6_isSign_1 (by omega) (Nat.le_of_ble_eq_true rfl) hw (fun V1 hw => ?_)
  refine J.aload_n 0 dX6_isSign_4 rfl ?_
  refine gX6_87 rfl hT dX6_isSign_5 ?_
  refine J.aload_n 0 dX6_isSign_8 rfl ?_
  refine gX6_90 rfl hT dX6_isSign_9 ?_
  refine J.icmp_ge 31 dX6_isSign_12 (by decide) ⟨fun c12 => ?_, fun c12 => ?_⟩
  · have hw := hw.1 c12
    refine J.iconst (v := (0 : Int32)) dX6_isSign_31 (by decide) ?_
    exact J.zret rfl rfl dX6_isSign_32 ⟨_, rfl, _, rfl, hw⟩
  · have hw := hw.2 c12
    refine J.aload_n 0 dX6_isSign_15 rfl ?_
    refine J.aload_n 0 dX6_isSign_16 rfl ?_
    refine gX6_87 rfl hT dX6_isSign_17 ?_
    refine kX6_93 rfl htr hT dX6_isSign_20 (by omega) (Nat.le_of_ble_eq_true rfl) hw (fun r20 hw => ?_)
    refine J.iload_n 1 dX6_isSign_23 rfl ?_
    refine J.icmp_ne 31 dX6_isSign_24 (by decide) ⟨fun c24 => ?_, fun c24 => ?_⟩
    · have hw := hw.1 c24
      refine J.iconst (v := (0 : Int32)) dX6_isSign_31 (by decide) ?_
      exact J.zret rfl rfl dX6_isSign_32 ⟨_, rfl, _, rfl, hw⟩
    · have hw := hw.2 c24
      refine J.iconst (v := (1 : Int32)) dX6_isSign_27 (by decide) ?_
      refine J.goto 32 dX6_isSign_28 (by decide) ?_
      exact J.zret rfl rfl dX6_isSign_32 ⟨_, rfl, _, rfl, hw⟩
theorem kX6_110 {G : jG} {l : Launch} {M : jM} {d c n pc : Nat} {lv : List (Nat × Value)} {rest : List Value} {post : Option Value → List jC → Prop} {xp : String → List jC → Prop} (hM : M.1.cls = RX6) (htr : l.stackTraces = false) {sh : List jH} {V : Nat → Nat → Int32} {R : Nat → Nat → Option Nat} {t : Nat} (hT : jReg shX6 sh t) {Q : Int32 → (Nat → Nat → Int32) → Prop} (hd : decode M.2.1 pc = .ok (.invokevirtual 110, 3)) (hdd : 2 + 1 ≤ d) (hw8 : (rest.map fun v => v.category).sum ≤ 8) (hw : wX6_here t V Q) (kk : ∀ r V', Q r V' → J G l M d c n (pc + 3) lv (.int r :: rest) (mk sh V' R) post xp) : J G l M d c n pc lv (.ref t :: rest) (mk sh V R) post xp :=
  J.callV (As := []) (hcw := by rw [hM]; exact lw_V q2274 q2276 qs78 q152 q2277) (mX6_here htr hT hw) hd rfl ⟨5, _, _, mk_at (hT.at 0 rfl), rfl, rfl, fun _ => rfl⟩ ⟨rfl, by decide, by decide, by show _ = some 0; decide +kernel⟩ hw8 ⟨hdd, by decide⟩ jcc0 (fun r9 g9 h9 => by obtain ⟨V9, rfl, r, rfl, h⟩ := h9; exact kk r V9 h) jNo.x
theorem kX6_113 {G : jG} {l : Launch} {M : jM} {d c n pc : Nat} {lv : List (Nat × Value)} {rest : List Value} {post : Option Value → List jC → Prop} {xp : String → List jC → Prop} (hM : M.1.cls = RX6) (htr : l.stackTraces = false) {sh : List jH} {V : Nat → Nat → Int32} {R : Nat → Nat → Option Nat} {t : Nat} (hT : jReg shX6 sh t) {a1 : Int32} {Q : (Nat → Nat → Int32) → Prop} (hd : decode M.2.1 pc = .ok (.invokevirtual 113, 3)) (hdd : 0 + 1 ≤ d) (hw8 : (rest.map fun v => v.category).sum ≤ 8) (hw : wX6_wrong t V a1 Q) (kk : ∀ V', Q V' → J G l M d c n (pc + 3) lv rest (mk sh V' R) post xp) : J G l M d c n pc lv (.int a1 :: .ref t :: rest) (mk sh V R) post xp :=
  J.callV (As := [.int a1]) (hcw := by rw [hM]; exact lw_V q2253 q2255 qs74 q152 q2256) (mX6_wrong htr hT hw) hd rfl ⟨5, _, _, mk_at (hT.at 0 rfl), rfl, rfl, fun _ => rfl⟩ ⟨rfl, by decide, by decide, by show _ = some 1; decide +kernel⟩ hw8 ⟨hdd, by decide⟩ jcc0 (fun r9 g9 h9 => by obtain ⟨V9, rfl, rfl, h⟩ := h9; exact kk V9 h) jNo.x
-- VisitingHoursModel.figures(II)I
abbrev MX6_figures : jM := (yX6_figures, cX6_figures, 5, some .int, [])
def wX6_figures_119 (t : Nat) (a1 : Int32) (a2 : Int32) (Q : Int32 → (Nat → Nat → Int32) → Prop) (V : Nat → Nat → Int32) (x3 : Int32) (x4 : Int32) : Prop :=
  wX6_wrong t V x3 (fun V121 => Q x4 V121)
theorem rX6_figures_119 {G : jG} {l : Launch} {d c n : Nat} (htr : l.stackTraces = false) (hdd : 3 ≤ d) {sh : List jH} {t : Nat} (hT : jReg shX6 sh t) {R : Nat → Nat → Option Nat} {a1 : Int32} {a2 : Int32} {Q : Int32 → (Nat → Nat → Int32) → Prop} {V : Nat → Nat → Int32} {x3 : Int32} {x4 : Int32} (hw : wX6_figures_119 t a1 a2 Q V x3 x4) : J G l MX6_figures d c n 119 [(0, .ref t), (3, .int x3), (4, .int x4)] [] (mk sh V R) (jWr sh R Q) jNo := by
  unfold wX6_figures_119 at hw
  refine J.aload_n 0 dX6_figures_119 rfl ?_
  refine J.iload_n 1 dX6_figures_120 rfl ?_
  refine kX6_113 rfl htr hT dX6_figures_121 (by omega) (Nat.le_of_ble_eq_true rfl) hw (fun V121 hw => ?_)
  refine J.iload 2 dX6_figures_124 rfl ?_
  exact J.iret rfl dX6_figures_126 ⟨_, rfl, _, rfl, hw⟩
def wX6_figures_89 (t : Nat) (a1 : Int32) (a2 : Int32) (Q : Int32 → (Nat → Nat → Int32) → Prop) (V : Nat → Nat → Int32) (x3 : Int32) (x4 : Int32) : Prop :=
  (((V t 11) = x3 → wX6_figures_119 t a1 a2 Q V x3 x4) ∧ (¬ (V t 11) = x3 → (((3 : Int32) < ((V t 11) - x3) → wX6_figures_119 t a1 a2 Q V x3 x4) ∧ (¬ (3 : Int32) < ((V t 11) - x3) → ((x4 < a1 → wX6_figures_119 t a1 a2 Q V x3 x4) ∧ (¬ x4 < a1 → ((x4 ≤ a2 → Q x4 V) ∧ (¬ x4 ≤ a2 → wX6_figures_119 t a1 a2 Q V x3 x4))))))))
theorem rX6_figures_89 {G : jG} {l : Launch} {d c n : Nat} (htr : l.stackTraces = false) (hdd : 3 ≤ d) {sh : List jH} {t : Nat} (hT : jReg shX6 sh t) {R : Nat → Nat → Option Nat} {a1 : Int32} {a2 : Int32} {Q : Int32 → (Nat → Nat → Int32) → Prop} {V : Nat → Nat → Int32} {x3 : Int32} {x4 : Int32} (hw : wX6_figures_89 t a1 a2 Q V x3 x4) : J G l MX6_figures d c n 89 [(0, .ref t), (1, .int a1), (2, .int a2), (3, .int x3), (4, .int x4)] [] (mk sh V R) (jWr sh R Q) jNo := by
  unfold wX6_figures_89 at hw
  refine J.aload_n 0 dX6_figures_89 rfl ?_
  refine gX6_87 rfl hT dX6_figures_90 ?_
  refine J.iload_n 3 dX6_figures_93 rfl ?_
  refine J.icmp_eq 119 dX6_figures_94 (by decide) ⟨fun c94 => ?_, fun c94 => ?_⟩
  · have hw := hw.1 c94
    exact J.pick [0, 3, 4] rfl (rX6_figures_119 htr hdd hT hw)
  · have hw := hw.2 c94
    refine J.aload_n 0 dX6_figures_97 rfl ?_
    refine gX6_87 rfl hT dX6_figures_98 ?_
    refine J.iload_n 3 dX6_figures_101 rfl ?_
    refine J.isub dX6_figures_102 ?_
    refine J.iconst (v := (3 : Int32)) dX6_figures_103 (by decide) ?_
    refine J.icmp_gt 119 dX6_figures_104 (by decide) ⟨fun c104 => ?_, fun c104 => ?_⟩
    · have hw := hw.1 c104
      exact J.pick [0, 3, 4] rfl (rX6_figures_119 htr hdd hT hw)
    · have hw := hw.2 c104
      refine J.iload 4 dX6_figures_107 rfl ?_
      refine J.iload_n 1 dX6_figures_109 rfl ?_
      refine J.icmp_lt 119 dX6_figures_110 (by decide) ⟨fun c110 => ?_, fun c110 => ?_⟩
      · have hw := hw.1 c110
        exact J.pick [0, 3, 4] rfl (rX6_figures_119 htr hdd hT hw)
      · have hw := hw.2 c110
        refine J.iload 4 dX6_figures_113 rfl ?_
        refine J.iload_n 2 dX6_figures_115 rfl ?_
        refine J.icmp_le 124 dX6_figures_116 (by decide) ⟨fun c116 => ?_, fun c116 => ?_⟩
        · have hw := hw.1 c116
          refine J.iload 4 dX6_figures_124 rfl ?_
          exact J.iret rfl dX6_figures_126 ⟨_, rfl, _, rfl, hw⟩
        · have hw := hw.2 c116
          exact J.pick [0, 3, 4] rfl (rX6_figures_119 htr hdd hT hw)
def wX6_figures_18 (t : Nat) (a1 : Int32) (a2 : Int32) (Q : Int32 → (Nat → Nat → Int32) → Prop) : Nat → (Nat → Nat → Int32) → Int32 → Int32 → Prop
  | 0, _, _, _ => False
  | f + 1, V, x3, x4 =>
    (((V t 10) ≤ (V t 11) → wX6_figures_89 t a1 a2 Q V x3 x4) ∧ (¬ (V t 10) ≤ (V t 11) → wX6_letter t V (V t 11) (fun r34 => wX6_isIn r34 (48 : Int32) (57 : Int32) (fun r41 => ((r41 = 0 → wX6_figures_89 t a1 a2 Q V x3 x4) ∧ (¬ r41 = 0 → (((3 : Int32) < ((V t 11) - x3) → wX6_figures_89 t a1 a2 Q V x3 x4) ∧ (¬ (3 : Int32) < ((V t 11) - x3) → wX6_letter t V (V t 11) (fun r67 => (∀ y74 : Int32, y74 = ((((10 : Int32) * x4) + r67) - (48 : Int32)) → (∀ y83 : Int32, y83 = ((V t 11) + (1 : Int32)) → wX6_figures_18 t a1 a2 Q f (vset V t 11 y83) x3 y74)))))))))))
theorem rX6_figures_18 {G : jG} {l : Launch} {d c n : Nat} (htr : l.stackTraces = false) (hdd : 3 ≤ d) {sh : List jH} {t : Nat} (hT : jReg shX6 sh t) {R : Nat → Nat → Option Nat} {a1 : Int32} {a2 : Int32} {Q : Int32 → (Nat → Nat → Int32) → Prop} : ∀ (f : Nat) (V : Nat → Nat → Int32) (x3 : Int32) (x4 : Int32), wX6_figures_18 t a1 a2 Q f V x3 x4 → J G l MX6_figures d c n 18 [(0, .ref t), (1, .int a1), (2, .int a2), (3, .int x3), (4, .int x4)] [] (mk sh V R) (jWr sh R Q) jNo := by
  intro f
  induction f with
  | zero =>
    intro V x3 x4 hw
    rw [wX6_figures_18] at hw
    exact hw.elim
  | succ f ih =>
    intro V x3 x4 hw
    rw [wX6_figures_18] at hw
    refine J.aload_n 0 dX6_figures_18 rfl ?_
    refine gX6_87 rfl hT dX6_figures_19 ?_
    refine J.aload_n 0 dX6_figures_22 rfl ?_
    refine gX6_90 rfl hT dX6_figures_23 ?_
    refine J.icmp_ge 89 dX6_figures_26 (by decide) ⟨fun c26 => ?_, fun c26 => ?_⟩
    · have hw := hw.1 c26
      exact (rX6_figures_89 htr hdd hT hw)
    · have hw := hw.2 c26
      refine J.aload_n 0 dX6_figures_29 rfl ?_
      refine J.aload_n 0 dX6_figures_30 rfl ?_
      refine gX6_87 rfl hT dX6_figures_31 ?_
      refine kX6_93 rfl htr hT dX6_figures_34 (by omega) (Nat.le_of_ble_eq_true rfl) hw (fun r34 hw => ?_)
      refine J.bipush (v := (48 : Int32)) dX6_figures_37 (by decide) ?_
      refine J.bipush (v := (57 : Int32)) dX6_figures_39 (by decide) ?_
      refine kX6_57 rfl htr dX6_figures_41 (by omega) (Nat.le_of_ble_eq_true rfl) hw (fun r41 hw => ?_)
      refine J.if_eq 89 dX6_figures_44 (by decide) ⟨fun c44 => ?_, fun c44 => ?_⟩
      · have hw := hw.1 c44
        exact (rX6_figures_89 htr hdd hT hw)
      · have hw := hw.2 c44
        refine J.aload_n 0 dX6_figures_47 rfl ?_
        refine gX6_87 rfl hT dX6_figures_48 ?_
        refine J.iload_n 3 dX6_figures_51 rfl ?_
        refine J.isub dX6_figures_52 ?_
        refine J.iconst (v := (3 : Int32)) dX6_figures_53 (by decide) ?_
        refine J.icmp_gt 89 dX6_figures_54 (by decide) ⟨fun c54 => ?_, fun c54 => ?_⟩
        · have hw := hw.1 c54
          exact (rX6_figures_89 htr hdd hT hw)
        · have hw := hw.2 c54
          refine J.bipush (v := (10 : Int32)) dX6_figures_57 (by decide) ?_
          refine J.iload 4 dX6_figures_59 rfl ?_
          refine J.imul dX6_figures_61 ?_
          refine J.aload_n 0 dX6_figures_62 rfl ?_
          refine J.aload_n 0 dX6_figures_63 rfl ?_
          refine gX6_87 rfl hT dX6_figures_64 ?_
          refine kX6_93 rfl htr hT dX6_figures_67 (by omega) (Nat.le_of_ble_eq_true rfl) hw (fun r67 hw => ?_)
          refine J.iadd dX6_figures_70 ?_
          refine J.bipush (v := (48 : Int32)) dX6_figures_71 (by decide) ?_
          refine J.isub dX6_figures_73 ?_
          refine J.nm hw (fun y74 hw => ?_)
          refine J.istore (lv' := [(4, .int y74), (0, .ref t), (1, .int a1), (2, .int a2), (3, .int x3)]) dX6_figures_74 (by decide) rfl ?_
          refine J.aload_n 1 dX6_figures_76 rfl ?_
          refine J.dup dX6_figures_77 rfl ?_
          refine gX6_87 rfl hT dX6_figures_78 ?_
          refine J.iconst (v := (1 : Int32)) dX6_figures_81 (by decide) ?_
          refine J.iadd dX6_figures_82 ?_
          refine J.nm hw (fun y83 hw => ?_)
          refine pX6_87 rfl hT dX6_figures_83 ?_
          refine J.goto 18 dX6_figures_86 (by decide) ?_
          exact J.pick [1, 2, 3, 4, 0] rfl (ih _ _ _ hw)
def wX6_figures (t : Nat) (V : Nat → Nat → Int32) (a1 : Int32) (a2 : Int32) (Q : Int32 → (Nat → Nat → Int32) → Prop) : Prop :=
  (((V t 12) = (-1 : Int32) → wX6_here t V (fun r11 V11 => (∃ f9, wX6_figures_18 t a1 a2 Q f9 V11 r11 (0 : Int32)))) ∧ (¬ (V t 12) = (-1 : Int32) → Q (0 : Int32) V))
theorem mX6_figures {G : jG} {l : Launch} (htr : l.stackTraces = false) {sh : List jH} {V : Nat → Nat → Int32} {R : Nat → Nat → Option Nat} {t : Nat} (hT : jReg shX6 sh t) {a1 : Int32} {a2 : Int32} {Q : Int32 → (Nat → Nat → Int32) → Prop} (hw : wX6_figures t V a1 a2 Q) : JM G l MX6_figures 3 0 0 [.ref t, .int a1, .int a2] (mk sh V R) (jWr sh R Q) jNo := by
  refine JM.intro (by decide) rfl htr (Nat.le_of_ble_eq_true rfl) ?_
  show J G l MX6_figures 3 0 0 0 [(0, .ref t), (1, .int a1), (2, .int a2)] [] (mk sh V R) _ _
  unfold wX6_figures at hw
  refine J.aload_n 0 dX6_figures_0 rfl ?_
  refine gX6_25 rfl hT dX6_figures_1 ?_
  refine J.iconst (v := (-1 : Int32)) dX6_figures_4 (by decide) ?_
  refine J.icmp_eq 10 dX6_figures_5 (by decide) ⟨fun c5 => ?_, fun c5 => ?_⟩
  · have hw := hw.1 c5
    refine J.aload_n 0 dX6_figures_10 rfl ?_
    refine kX6_110 rfl htr hT dX6_figures_11 (by omega) (Nat.le_of_ble_eq_true rfl) hw (fun r11 V11 hw => ?_)
    refine J.istore_n (lv' := [(3, .int r11), (0, .ref t), (1, .int a1), (2, .int a2)]) dX6_figures_14 (by decide) rfl ?_
    refine J.iconst (v := (0 : Int32)) dX6_figures_15 (by decide) ?_
    refine J.istore (lv' := [(4, .int (0 : Int32)), (3, .int r11), (0, .ref t), (1, .int a1), (2, .int a2)]) dX6_figures_16 (by decide) rfl ?_
    obtain ⟨f9, hw⟩ := hw
    exact J.pick [2, 3, 4, 1, 0] rfl (rX6_figures_18 htr (Nat.le_refl _) hT f9 _ _ _ hw)
  · have hw := hw.2 c5
    refine J.iconst (v := (0 : Int32)) dX6_figures_8 (by decide) ?_
    exact J.iret rfl dX6_figures_9 ⟨_, rfl, _, rfl, hw⟩
-- VisitingHoursModel.letters()I
abbrev MX6_letters : jM := (yX6_letters, cX6_letters, 5, some .int, [])
def wX6_letters_131 (t : Nat) (Q : Int32 → (Nat → Nat → Int32) → Prop) (V : Nat → Nat → Int32) (x1 : Int32) (x2 : Int32) : Prop :=
  wX6_wrong t V x1 (fun V133 => Q x2 V133)
theorem rX6_letters_131 {G : jG} {l : Launch} {d c n : Nat} (htr : l.stackTraces = false) (hdd : 3 ≤ d) {sh : List jH} {t : Nat} (hT : jReg shX6 sh t) {R : Nat → Nat → Option Nat} {Q : Int32 → (Nat → Nat → Int32) → Prop} {V : Nat → Nat → Int32} {x1 : Int32} {x2 : Int32} (hw : wX6_letters_131 t Q V x1 x2) : J G l MX6_letters d c n 131 [(0, .ref t), (1, .int x1), (2, .int x2)] [] (mk sh V R) (jWr sh R Q) jNo := by
  unfold wX6_letters_131 at hw
  refine J.aload_n 0 dX6_letters_131 rfl ?_
  refine J.iload_n 1 dX6_letters_132 rfl ?_
  refine kX6_113 rfl htr hT dX6_letters_133 (by omega) (Nat.le_of_ble_eq_true rfl) hw (fun V133 hw => ?_)
  refine J.iload_n 2 dX6_letters_136 rfl ?_
  exact J.iret rfl dX6_letters_137 ⟨_, rfl, _, rfl, hw⟩
def wX6_letters_119 (t : Nat) (Q : Int32 → (Nat → Nat → Int32) → Prop) (V : Nat → Nat → Int32) (x1 : Int32) (x2 : Int32) (x3 : Int32) : Prop :=
  (((V t 11) = x1 → wX6_letters_131 t Q V x1 x2) ∧ (¬ (V t 11) = x1 → ((¬ x3 = 0 → Q x2 V) ∧ (x3 = 0 → wX6_letters_131 t Q V x1 x2))))
theorem rX6_letters_119 {G : jG} {l : Launch} {d c n : Nat} (htr : l.stackTraces = false) (hdd : 3 ≤ d) {sh : List jH} {t : Nat} (hT : jReg shX6 sh t) {R : Nat → Nat → Option Nat} {Q : Int32 → (Nat → Nat → Int32) → Prop} {V : Nat → Nat → Int32} {x1 : Int32} {x2 : Int32} {x3 : Int32} (hw : wX6_letters_119 t Q V x1 x2 x3) : J G l MX6_letters d c n 119 [(0, .ref t), (1, .int x1), (2, .int x2), (3, .int x3)] [] (mk sh V R) (jWr sh R Q) jNo := by
  unfold wX6_letters_119 at hw
  refine J.aload_n 0 dX6_letters_119 rfl ?_
  refine gX6_87 rfl hT dX6_letters_120 ?_
  refine J.iload_n 1 dX6_letters_123 rfl ?_
  refine J.icmp_eq 131 dX6_letters_124 (by decide) ⟨fun c124 => ?_, fun c124 => ?_⟩
  · have hw := hw.1 c124
    exact J.pick [0, 1, 2] rfl (rX6_letters_131 htr hdd hT hw)
  · have hw := hw.2 c124
    refine J.iload_n 3 dX6_letters_127 rfl ?_
    refine J.if_ne 136 dX6_letters_128 (by decide) ⟨fun c128 => ?_, fun c128 => ?_⟩
    · have hw := hw.1 c128
      refine J.iload_n 2 dX6_letters_136 rfl ?_
      exact J.iret rfl dX6_letters_137 ⟨_, rfl, _, rfl, hw⟩
    · have hw := hw.2 c128
      exact J.pick [0, 1, 2] rfl (rX6_letters_131 htr hdd hT hw)
def wX6_letters_104 (t : Nat) (Q : Int32 → (Nat → Nat → Int32) → Prop) (K19 : (Nat → Nat → Int32) → Int32 → Int32 → Int32 → Prop) (V : Nat → Nat → Int32) (x1 : Int32) (x3 : Int32) (s0 : Int32) (s1 : Int32) : Prop :=
  (∀ y105 : Int32, y105 = (s0 ||| s1) → (∀ y113 : Int32, y113 = ((V t 11) + (1 : Int32)) → K19 (vset V t 11 y113) x1 y105 x3))
theorem rX6_letters_104 {G : jG} {l : Launch} {d c n : Nat} (htr : l.stackTraces = false) (hdd : 3 ≤ d) {sh : List jH} {t : Nat} (hT : jReg shX6 sh t) {R : Nat → Nat → Option Nat} {Q : Int32 → (Nat → Nat → Int32) → Prop} {K19 : (Nat → Nat → Int32) → Int32 → Int32 → Int32 → Prop} (hK19 : ∀ (V : Nat → Nat → Int32) (x1 : Int32) (x2 : Int32) (x3 : Int32), K19 V x1 x2 x3 → J G l MX6_letters d c n 19 [(0, .ref t), (1, .int x1), (2, .int x2), (3, .int x3)] [] (mk sh V R) (jWr sh R Q) jNo) {V : Nat → Nat → Int32} {x1 : Int32} {x3 : Int32} {s0 : Int32} {s1 : Int32} (hw : wX6_letters_104 t Q K19 V x1 x3 s0 s1) : J G l MX6_letters d c n 104 [(0, .ref t), (1, .int x1), (3, .int x3)] [.int s1, .int s0] (mk sh V R) (jWr sh R Q) jNo := by
  unfold wX6_letters_104 at hw
  refine J.ior dX6_letters_104 ?_
  refine J.nm hw (fun y105 hw => ?_)
  refine J.istore_n (lv' := [(2, .int y105), (0, .ref t), (1, .int x1), (3, .int x3)]) dX6_letters_105 (by decide) rfl ?_
  refine J.aload_n 1 dX6_letters_106 rfl ?_
  refine J.dup dX6_letters_107 rfl ?_
  refine gX6_87 rfl hT dX6_letters_108 ?_
  refine J.iconst (v := (1 : Int32)) dX6_letters_111 (by decide) ?_
  refine J.iadd dX6_letters_112 ?_
  refine J.nm hw (fun y113 hw => ?_)
  refine pX6_87 rfl hT dX6_letters_113 ?_
  refine J.goto 19 dX6_letters_116 (by decide) ?_
  exact J.pick [1, 2, 0, 3] rfl (hK19 _ _ _ _ hw)
def wX6_letters_90 (t : Nat) (Q : Int32 → (Nat → Nat → Int32) → Prop) (K19 : (Nat → Nat → Int32) → Int32 → Int32 → Int32 → Prop) (V : Nat → Nat → Int32) (x1 : Int32) (x2 : Int32) (x4 : Int32) (s0 : Int32) : Prop :=
  ((s0 = 0 → wX6_letters_104 t Q K19 V x1 s0 x2 (0 : Int32)) ∧ (¬ s0 = 0 → wX6_letters_104 t Q K19 V x1 s0 x2 ((1 : Int32) <<< (x4 &&& 31))))
theorem rX6_letters_90 {G : jG} {l : Launch} {d c n : Nat} (htr : l.stackTraces = false) (hdd : 3 ≤ d) {sh : List jH} {t : Nat} (hT : jReg shX6 sh t) {R : Nat → Nat → Option Nat} {Q : Int32 → (Nat → Nat → Int32) → Prop} {K19 : (Nat → Nat → Int32) → Int32 → Int32 → Int32 → Prop} (hK19 : ∀ (V : Nat → Nat → Int32) (x1 : Int32) (x2 : Int32) (x3 : Int32), K19 V x1 x2 x3 → J G l MX6_letters d c n 19 [(0, .ref t), (1, .int x1), (2, .int x2), (3, .int x3)] [] (mk sh V R) (jWr sh R Q) jNo) {V : Nat → Nat → Int32} {x1 : Int32} {x2 : Int32} {x4 : Int32} {s0 : Int32} (hw : wX6_letters_90 t Q K19 V x1 x2 x4 s0) : J G l MX6_letters d c n 90 [(0, .ref t), (1, .int x1), (2, .int x2), (4, .int x4)] [.int s0] (mk sh V R) (jWr sh R Q) jNo := by
  unfold wX6_letters_90 at hw
  refine J.istore_n (lv' := [(3, .int s0), (0, .ref t), (1, .int x1), (2, .int x2), (4, .int x4)]) dX6_letters_90 (by decide) rfl ?_
  refine J.iload_n 3 dX6_letters_91 rfl ?_
  refine J.iload_n 0 dX6_letters_92 rfl ?_
  refine J.if_eq 103 dX6_letters_93 (by decide) ⟨fun c93 => ?_, fun c93 => ?_⟩
  · have hw := hw.1 c93
    refine J.iconst (v := (0 : Int32)) dX6_letters_103 (by decide) ?_
    exact J.pick [1, 2, 0] rfl (rX6_letters_104 htr hdd hT hK19 hw)
  · have hw := hw.2 c93
    refine J.iconst (v := (1 : Int32)) dX6_letters_96 (by decide) ?_
    refine J.iload 4 dX6_letters_97 rfl ?_
    refine J.ishl dX6_letters_99 ?_
    refine J.goto 104 dX6_letters_100 (by decide) ?_
    exact J.pick [1, 2, 0] rfl (rX6_letters_104 htr hdd hT hK19 hw)
def wX6_letters_89 (t : Nat) (Q : Int32 → (Nat → Nat → Int32) → Prop) (K19 : (Nat → Nat → Int32) → Int32 → Int32 → Int32 → Prop) (V : Nat → Nat → Int32) (x1 : Int32) (x2 : Int32) (x4 : Int32) : Prop :=
  wX6_letters_90 t Q K19 V x1 x2 x4 (0 : Int32)
theorem rX6_letters_89 {G : jG} {l : Launch} {d c n : Nat} (htr : l.stackTraces = false) (hdd : 3 ≤ d) {sh : List jH} {t : Nat} (hT : jReg shX6 sh t) {R : Nat → Nat → Option Nat} {Q : Int32 → (Nat → Nat → Int32) → Prop} {K19 : (Nat → Nat → Int32) → Int32 → Int32 → Int32 → Prop} (hK19 : ∀ (V : Nat → Nat → Int32) (x1 : Int32) (x2 : Int32) (x3 : Int32), K19 V x1 x2 x3 → J G l MX6_letters d c n 19 [(0, .ref t), (1, .int x1), (2, .int x2), (3, .int x3)] [] (mk sh V R) (jWr sh R Q) jNo) {V : Nat → Nat → Int32} {x1 : Int32} {x2 : Int32} {x4 : Int32} (hw : wX6_letters_89 t Q K19 V x1 x2 x4) : J G l MX6_letters d c n 89 [(0, .ref t), (1, .int x1), (2, .int x2), (4, .int x4)] [] (mk sh V R) (jWr sh R Q) jNo := by
  unfold wX6_letters_89 at hw
  refine J.iconst (v := (0 : Int32)) dX6_letters_89 (by decide) ?_
  exact (rX6_letters_90 htr hdd hT hK19 hw)
def wX6_letters_19 (t : Nat) (Q : Int32 → (Nat → Nat → Int32) → Prop) : Nat → (Nat → Nat → Int32) → Int32 → Int32 → Int32 → Prop
  | 0, _, _, _, _ => False
  | f + 1, V, x1, x2, x3 =>
    (((V t 10) ≤ (V t 11) → wX6_letters_119 t Q V x1 x2 x3) ∧ (¬ (V t 10) ≤ (V t 11) → wX6_letter t V (V t 11) (fun r35 => wX6_isIn r35 (97 : Int32) (122 : Int32) (fun r42 => ((r42 = 0 → wX6_letters_119 t Q V x1 x2 x3) ∧ (¬ r42 = 0 → wX6_letter t V (V t 11) (fun r53 => (∀ y59 : Int32, y59 = (r53 - (97 : Int32)) → ((x3 = 0 → wX6_letters_89 t Q (fun V x1 x2 x3 => wX6_letters_19 t Q f V x1 x2 x3) V x1 x2 y59) ∧ (¬ x3 = 0 → (((6 : Int32) ≤ y59 → wX6_letters_89 t Q (fun V x1 x2 x3 => wX6_letters_19 t Q f V x1 x2 x3) V x1 x2 y59) ∧ (¬ (6 : Int32) ≤ y59 → wX6_lesser y59 (5 : Int32) (fun r76 => wX6_isOf x2 r76 (fun r79 => ((¬ r79 = 0 → wX6_letters_89 t Q (fun V x1 x2 x3 => wX6_letters_19 t Q f V x1 x2 x3) V x1 x2 y59) ∧ (r79 = 0 → wX6_letters_90 t Q (fun V x1 x2 x3 => wX6_letters_19 t Q f V x1 x2 x3) V x1 x2 y59 (1 : Int32)))))))))))))))))
theorem rX6_letters_19 {G : jG} {l : Launch} {d c n : Nat} (htr : l.stackTraces = false) (hdd : 3 ≤ d) {sh : List jH} {t : Nat} (hT : jReg shX6 sh t) {R : Nat → Nat → Option Nat} {Q : Int32 → (Nat → Nat → Int32) → Prop} : ∀ (f : Nat) (V : Nat → Nat → Int32) (x1 : Int32) (x2 : Int32) (x3 : Int32), wX6_letters_19 t Q f V x1 x2 x3 → J G l MX6_letters d c n 19 [(0, .ref t), (1, .int x1), (2, .int x2), (3, .int x3)] [] (mk sh V R) (jWr sh R Q) jNo := by
  intro f
  induction f with
  | zero =>
    intro V x1 x2 x3 hw
    rw [wX6_letters_19] at hw
    exact hw.elim
  | succ f ih =>
    intro V x1 x2 x3 hw
    rw [wX6_letters_19] at hw
    refine J.aload_n 0 dX6_letters_19 rfl ?_
    refine gX6_87 rfl hT dX6_letters_20 ?_
    refine J.aload_n 0 dX6_letters_23 rfl ?_
    refine gX6_90 rfl hT dX6_letters_24 ?_
    refine J.icmp_ge 119 dX6_letters_27 (by decide) ⟨fun c27 => ?_, fun c27 => ?_⟩
    · have hw := hw.1 c27
      exact (rX6_letters_119 htr hdd hT hw)
    · have hw := hw.2 c27
      refine J.aload_n 0 dX6_letters_30 rfl ?_
      refine J.aload_n 0 dX6_letters_31 rfl ?_
      refine gX6_87 rfl hT dX6_letters_32 ?_
      refine kX6_93 rfl htr hT dX6_letters_35 (by omega) (Nat.le_of_ble_eq_true rfl) hw (fun r35 hw => ?_)
      refine J.bipush (v := (97 : Int32)) dX6_letters_38 (by decide) ?_
      refine J.bipush (v := (122 : Int32)) dX6_letters_40 (by decide) ?_
      refine kX6_57 rfl htr dX6_letters_42 (by omega) (Nat.le_of_ble_eq_true rfl) hw (fun r42 hw => ?_)
      refine J.if_eq 119 dX6_letters_45 (by decide) ⟨fun c45 => ?_, fun c45 => ?_⟩
      · have hw := hw.1 c45
        exact (rX6_letters_119 htr hdd hT hw)
      · have hw := hw.2 c45
        refine J.aload_n 0 dX6_letters_48 rfl ?_
        refine J.aload_n 0 dX6_letters_49 rfl ?_
        refine gX6_87 rfl hT dX6_letters_50 ?_
        refine kX6_93 rfl htr hT dX6_letters_53 (by omega) (Nat.le_of_ble_eq_true rfl) hw (fun r53 hw => ?_)
        refine J.bipush (v := (97 : Int32)) dX6_letters_56 (by decide) ?_
        refine J.isub dX6_letters_58 ?_
        refine J.nm hw (fun y59 hw => ?_)
        refine J.istore (lv' := [(4, .int y59), (0, .ref t), (1, .int x1), (2, .int x2), (3, .int x3)]) dX6_letters_59 (by decide) rfl ?_
        refine J.iload_n 4 dX6_letters_61 rfl ?_
        refine J.if_eq 89 dX6_letters_62 (by decide) ⟨fun c62 => ?_, fun c62 => ?_⟩
        · have hw := hw.1 c62
          exact J.pick [1, 2, 3, 0] rfl (rX6_letters_89 htr hdd hT ih hw)
        · have hw := hw.2 c62
          refine J.iload 0 dX6_letters_65 rfl ?_
          refine J.bipush (v := (6 : Int32)) dX6_letters_67 (by decide) ?_
          refine J.icmp_ge 89 dX6_letters_69 (by decide) ⟨fun c69 => ?_, fun c69 => ?_⟩
          · have hw := hw.1 c69
            exact J.pick [1, 2, 3, 0] rfl (rX6_letters_89 htr hdd hT ih hw)
          · have hw := hw.2 c69
            refine J.iload_n 3 dX6_letters_72 rfl ?_
            refine J.iload 0 dX6_letters_73 rfl ?_
            refine J.iconst (v := (5 : Int32)) dX6_letters_75 (by decide) ?_
            refine kX6_124 rfl htr dX6_letters_76 (by omega) (Nat.le_of_ble_eq_true rfl) hw (fun r76 hw => ?_)
            refine kX6_74 rfl htr dX6_letters_79 (by omega) (Nat.le_of_ble_eq_true rfl) hw (fun r79 hw => ?_)
            refine J.if_ne 89 dX6_letters_82 (by decide) ⟨fun c82 => ?_, fun c82 => ?_⟩
            · have hw := hw.1 c82
              exact J.pick [1, 2, 3, 0] rfl (rX6_letters_89 htr hdd hT ih hw)
            · have hw := hw.2 c82
              refine J.iconst (v := (1 : Int32)) dX6_letters_85 (by decide) ?_
              refine J.goto 90 dX6_letters_86 (by decide) ?_
              exact J.pick [1, 2, 3, 0] rfl (rX6_letters_90 htr hdd hT ih hw)
def wX6_letters (t : Nat) (V : Nat → Nat → Int32) (Q : Int32 → (Nat → Nat → Int32) → Prop) : Prop :=
  (((V t 12) = (-1 : Int32) → wX6_here t V (fun r11 V11 => (∃ f9, wX6_letters_19 t Q f9 V11 r11 (0 : Int32) (1 : Int32)))) ∧ (¬ (V t 12) = (-1 : Int32) → Q (0 : Int32) V))
theorem mX6_letters {G : jG} {l : Launch} (htr : l.stackTraces = false) {sh : List jH} {V : Nat → Nat → Int32} {R : Nat → Nat → Option Nat} {t : Nat} (hT : jReg shX6 sh t) {Q : Int32 → (Nat → Nat → Int32) → Prop} (hw : wX6_letters t V Q) : JM G l MX6_letters 3 0 0 [.ref t] (mk sh V R) (jWr sh R Q) jNo := by
  refine JM.intro (by decide) rfl htr (Nat.le_of_ble_eq_true rfl) ?_
  show J G l MX6_letters 3 0 0 0 [(0, .ref t)] [] (mk sh V R) _ _
  unfold wX6_letters at hw
  refine J.aload_n 0 dX6_letters_0 rfl ?_
  refine gX6_25 rfl hT dX6_letters_1 ?_
  refine J.iconst (v := (-1 : Int32)) dX6_letters_4 (by decide) ?_
  refine J.icmp_eq 10 dX6_letters_5 (by decide) ⟨fun c5 => ?_, fun c5 => ?_⟩
  · have hw := hw.1 c5
    refine J.aload_n 0 dX6_letters_10 rfl ?_
    refine kX6_110 rfl htr hT dX6_letters_11 (by omega) (Nat.le_of_ble_eq_true rfl) hw (fun r11 V11 hw => ?_)
    refine J.istore_n (lv' := [(1, .int r11), (0, .ref t)]) dX6_letters_14 (by decide) rfl ?_
    refine J.iconst (v := (0 : Int32)) dX6_letters_15 (by decide) ?_
    refine J.istore_n (lv' := [(2, .int (0 : Int32)), (1, .int r11), (0, .ref t)]) dX6_letters_16 (by decide) rfl ?_
    refine J.iconst (v := (1 : Int32)) dX6_letters_17 (by decide) ?_
    refine J.istore_n (lv' := [(3, .int (1 : Int32)), (2, .int (0 : Int32)), (1, .int r11), (0, .ref t)]) dX6_letters_18 (by decide) rfl ?_
    obtain ⟨f9, hw⟩ := hw
    exact J.pick [3, 2, 1, 0] rfl (rX6_letters_19 htr (Nat.le_refl _) hT f9 _ _ _ _ hw)
  · have hw := hw.2 c5
    refine J.iconst (v := (0 : Int32)) dX6_letters_8 (by decide) ?_
    exact J.iret rfl dX6_letters_9 ⟨_, rfl, _, rfl, hw⟩
theorem kX6_121 {G : jG} {l : Launch} {M : jM} {d c n pc : Nat} {lv : List (Nat × Value)} {rest : List Value} {post : Option Value → List jC → Prop} {xp : String → List jC → Prop} (hM : M.1.cls = RX6) (htr : l.stackTraces = false) {sh : List jH} {V : Nat → Nat → Int32} {R : Nat → Nat → Option Nat} {t : Nat} (hT : jReg shX6 sh t) {a1 : Int32} {a2 : Int32} {Q : Int32 → (Nat → Nat → Int32) → Prop} (hd : decode M.2.1 pc = .ok (.invokevirtual 121, 3)) (hdd : 3 + 1 ≤ d) (hw8 : (rest.map fun v => v.category).sum ≤ 8) (hw : wX6_figures t V a1 a2 Q) (kk : ∀ r V', Q r V' → J G l M d c n (pc + 3) lv (.int r :: rest) (mk sh V' R) post xp) : J G l M d c n pc lv (.int a2 :: .int a1 :: .ref t :: rest) (mk sh V R) post xp :=
  J.callV (As := [.int a1, .int a2]) (hcw := by rw [hM]; exact lw_V q2270 q2272 qs77 q152 q2273) (mX6_figures htr hT hw) hd rfl ⟨5, _, _, mk_at (hT.at 0 rfl), rfl, rfl, fun _ => rfl⟩ ⟨rfl, by decide, by decide, by show _ = some 2; decide +kernel⟩ hw8 ⟨hdd, by decide⟩ jcc0 (fun r9 g9 h9 => by obtain ⟨V9, rfl, r, rfl, h⟩ := h9; exact kk r V9 h) jNo.x
-- VisitingHoursModel.ranksLine(III)V
abbrev MX6_ranksLine : jM := (yX6_ranksLine, cX6_ranksLine, 8, none, [])
def wX6_ranksLine_88 (t : Nat) (a1 : Int32) (a2 : Int32) (a3 : Int32) (Q : (Nat → Nat → Int32) → Prop) : Nat → (Nat → Nat → Int32) → Int32 → Int32 → Int32 → Int32 → Prop
  | 0, _, _, _, _, _ => False
  | f + 1, V, x4, x5, x6, x7 =>
    ((x6 ≤ x7 → (∀ y134 : Int32, y134 = (x5 + x6) → Q (vset V t 11 y134))) ∧ (¬ x6 ≤ x7 → wX6_letter t V (x5 + x7) (fun r115 => (∀ y121 : Int32, y121 = (r115 - (48 : Int32)) → (vp_in ((a1 + ((8 : Int32) * x4)) + x7) 1019 ∧ (∀ y122 : Int32, y122 = x7 + (1 : Int32) → wX6_ranksLine_88 t a1 a2 a3 Q f (vset V (t + 1) ((a1 + ((8 : Int32) * x4)) + x7).toNatClampNeg y121) x4 x5 x6 y122))))))
theorem rX6_ranksLine_88 {G : jG} {l : Launch} {d c n : Nat} (htr : l.stackTraces = false) (hdd : 4 ≤ d) {sh : List jH} {t : Nat} (hT : jReg shX6 sh t) {R : Nat → Nat → Option Nat} {a1 : Int32} {a2 : Int32} {a3 : Int32} {Q : (Nat → Nat → Int32) → Prop} : ∀ (f : Nat) (V : Nat → Nat → Int32) (x4 : Int32) (x5 : Int32) (x6 : Int32) (x7 : Int32), wX6_ranksLine_88 t a1 a2 a3 Q f V x4 x5 x6 x7 → J G l MX6_ranksLine d c n 88 [(0, .ref t), (1, .int a1), (4, .int x4), (5, .int x5), (6, .int x6), (7, .int x7)] [] (mk sh V R) (jWv sh R Q) jNo := by
  intro f
  induction f with
  | zero =>
    intro V x4 x5 x6 x7 hw
    rw [wX6_ranksLine_88] at hw
    exact hw.elim
  | succ f ih =>
    intro V x4 x5 x6 x7 hw
    rw [wX6_ranksLine_88] at hw
    refine J.iload 5 dX6_ranksLine_88 rfl ?_
    refine J.iload 4 dX6_ranksLine_90 rfl ?_
    refine J.icmp_ge 128 dX6_ranksLine_92 (by decide) ⟨fun c92 => ?_, fun c92 => ?_⟩
    · have hw := hw.1 c92
      refine J.aload_n 0 dX6_ranksLine_128 rfl ?_
      refine J.iload 3 dX6_ranksLine_129 rfl ?_
      refine J.iload 4 dX6_ranksLine_131 rfl ?_
      refine J.iadd dX6_ranksLine_133 ?_
      refine J.nm hw (fun y134 hw => ?_)
      refine pX6_87 rfl hT dX6_ranksLine_134 ?_
      exact J.vret rfl dX6_ranksLine_137 ⟨_, rfl, rfl, hw⟩
    · have hw := hw.2 c92
      refine J.aload_n 0 dX6_ranksLine_95 rfl ?_
      refine gX6_7 rfl hT dX6_ranksLine_96 ?_
      refine J.iload_n 1 dX6_ranksLine_99 rfl ?_
      refine J.bipush (v := (8 : Int32)) dX6_ranksLine_100 (by decide) ?_
      refine J.iload 2 dX6_ranksLine_102 rfl ?_
      refine J.imul dX6_ranksLine_104 ?_
      refine J.iadd dX6_ranksLine_105 ?_
      refine J.iload 5 dX6_ranksLine_106 rfl ?_
      refine J.iadd dX6_ranksLine_108 ?_
      refine J.aload_n 0 dX6_ranksLine_109 rfl ?_
      refine J.iload 3 dX6_ranksLine_110 rfl ?_
      refine J.iload 5 dX6_ranksLine_112 rfl ?_
      refine J.iadd dX6_ranksLine_114 ?_
      refine kX6_93 rfl htr hT dX6_ranksLine_115 (by omega) (Nat.le_of_ble_eq_true rfl) hw (fun r115 hw => ?_)
      refine J.bipush (v := (48 : Int32)) dX6_ranksLine_118 (by decide) ?_
      refine J.isub dX6_ranksLine_120 ?_
      refine J.nm hw (fun y121 hw => ?_)
      obtain ⟨h121, hw⟩ := hw
      refine JV.iast dX6_ranksLine_121 (hT.ge 1) (hT.at 1 rfl) h121 ?_
      refine J.iincN 5 (K := (1 : Int32)) (lv' := fun y122 => [(7, .int y122), (0, .ref t), (1, .int a1), (4, .int x4), (5, .int x5), (6, .int x6)]) dX6_ranksLine_122 rfl (by decide) (by decide) (fun _ => rfl) hw (fun y122 hw => ?_)
      refine J.goto 88 dX6_ranksLine_125 (by decide) ?_
      exact J.pick [1, 2, 3, 4, 5, 0] rfl (ih _ _ _ _ _ hw)
def wX6_ranksLine_76 (t : Nat) (a1 : Int32) (a2 : Int32) (a3 : Int32) (Q : (Nat → Nat → Int32) → Prop) (V : Nat → Nat → Int32) (x4 : Int32) (x5 : Int32) (x6 : Int32) : Prop :=
  (((V t 12) = (-1 : Int32) → (∃ f9, wX6_ranksLine_88 t a1 a2 a3 Q f9 V x4 x5 x6 (0 : Int32))) ∧ (¬ (V t 12) = (-1 : Int32) → Q V))
theorem rX6_ranksLine_76 {G : jG} {l : Launch} {d c n : Nat} (htr : l.stackTraces = false) (hdd : 4 ≤ d) {sh : List jH} {t : Nat} (hT : jReg shX6 sh t) {R : Nat → Nat → Option Nat} {a1 : Int32} {a2 : Int32} {a3 : Int32} {Q : (Nat → Nat → Int32) → Prop} {V : Nat → Nat → Int32} {x4 : Int32} {x5 : Int32} {x6 : Int32} (hw : wX6_ranksLine_76 t a1 a2 a3 Q V x4 x5 x6) : J G l MX6_ranksLine d c n 76 [(0, .ref t), (1, .int a1), (4, .int x4), (5, .int x5), (6, .int x6)] [] (mk sh V R) (jWv sh R Q) jNo := by
  unfold wX6_ranksLine_76 at hw
  refine J.aload_n 0 dX6_ranksLine_76 rfl ?_
  refine gX6_25 rfl hT dX6_ranksLine_77 ?_
  refine J.iconst (v := (-1 : Int32)) dX6_ranksLine_80 (by decide) ?_
  refine J.icmp_eq 85 dX6_ranksLine_81 (by decide) ⟨fun c81 => ?_, fun c81 => ?_⟩
  · have hw := hw.1 c81
    refine J.iconst (v := (0 : Int32)) dX6_ranksLine_85 (by decide) ?_
    refine J.istore (lv' := [(7, .int (0 : Int32)), (0, .ref t), (1, .int a1), (4, .int x4), (5, .int x5), (6, .int x6)]) dX6_ranksLine_86 (by decide) rfl ?_
    obtain ⟨f9, hw⟩ := hw
    exact J.pick [1, 2, 3, 4, 5, 0] rfl (rX6_ranksLine_88 htr hdd hT f9 _ _ _ _ _ hw)
  · have hw := hw.2 c81
    exact J.vret rfl dX6_ranksLine_84 ⟨_, rfl, rfl, hw⟩
def wX6_ranksLine_64 (t : Nat) (a1 : Int32) (a2 : Int32) (a3 : Int32) (Q : (Nat → Nat → Int32) → Prop) (V : Nat → Nat → Int32) (x4 : Int32) (x5 : Int32) (x6 : Int32) : Prop :=
  ((x6 = a3 → wX6_ranksLine_76 t a1 a2 a3 Q V x4 x5 x6) ∧ (¬ x6 = a3 → wX6_wrong t V x5 (fun V73 => wX6_ranksLine_76 t a1 a2 a3 Q V73 x4 x5 x6)))
theorem rX6_ranksLine_64 {G : jG} {l : Launch} {d c n : Nat} (htr : l.stackTraces = false) (hdd : 4 ≤ d) {sh : List jH} {t : Nat} (hT : jReg shX6 sh t) {R : Nat → Nat → Option Nat} {a1 : Int32} {a2 : Int32} {a3 : Int32} {Q : (Nat → Nat → Int32) → Prop} {V : Nat → Nat → Int32} {x4 : Int32} {x5 : Int32} {x6 : Int32} (hw : wX6_ranksLine_64 t a1 a2 a3 Q V x4 x5 x6) : J G l MX6_ranksLine d c n 64 [(0, .ref t), (1, .int a1), (3, .int a3), (4, .int x4), (5, .int x5), (6, .int x6)] [] (mk sh V R) (jWv sh R Q) jNo := by
  unfold wX6_ranksLine_64 at hw
  refine J.iload 5 dX6_ranksLine_64 rfl ?_
  refine J.iload_n 2 dX6_ranksLine_66 rfl ?_
  refine J.icmp_eq 76 dX6_ranksLine_67 (by decide) ⟨fun c67 => ?_, fun c67 => ?_⟩
  · have hw := hw.1 c67
    exact J.pick [0, 1, 3, 4, 5] rfl (rX6_ranksLine_76 htr hdd hT hw)
  · have hw := hw.2 c67
    refine J.aload_n 0 dX6_ranksLine_70 rfl ?_
    refine J.iload 4 dX6_ranksLine_71 rfl ?_
    refine kX6_113 rfl htr hT dX6_ranksLine_73 (by omega) (Nat.le_of_ble_eq_true rfl) hw (fun V73 hw => ?_)
    exact J.pick [0, 1, 3, 4, 5] rfl (rX6_ranksLine_76 htr hdd hT hw)
def wX6_ranksLine_19 (t : Nat) (a1 : Int32) (a2 : Int32) (a3 : Int32) (Q : (Nat → Nat → Int32) → Prop) : Nat → (Nat → Nat → Int32) → Int32 → Int32 → Int32 → Prop
  | 0, _, _, _, _ => False
  | f + 1, V, x4, x5, x6 =>
    ((¬ (V t 12) = (-1 : Int32) → wX6_ranksLine_64 t a1 a2 a3 Q V x4 x5 x6) ∧ ((V t 12) = (-1 : Int32) → (((V t 10) ≤ (x5 + x6) → wX6_ranksLine_64 t a1 a2 a3 Q V x4 x5 x6) ∧ (¬ (V t 10) ≤ (x5 + x6) → wX6_letter t V (x5 + x6) (fun r45 => wX6_isIn r45 (48 : Int32) (57 : Int32) (fun r52 => ((r52 = 0 → wX6_ranksLine_64 t a1 a2 a3 Q V x4 x5 x6) ∧ (¬ r52 = 0 → (∀ y58 : Int32, y58 = x6 + (1 : Int32) → wX6_ranksLine_19 t a1 a2 a3 Q f V x4 x5 y58)))))))))
theorem rX6_ranksLine_19 {G : jG} {l : Launch} {d c n : Nat} (htr : l.stackTraces = false) (hdd : 4 ≤ d) {sh : List jH} {t : Nat} (hT : jReg shX6 sh t) {R : Nat → Nat → Option Nat} {a1 : Int32} {a2 : Int32} {a3 : Int32} {Q : (Nat → Nat → Int32) → Prop} : ∀ (f : Nat) (V : Nat → Nat → Int32) (x4 : Int32) (x5 : Int32) (x6 : Int32), wX6_ranksLine_19 t a1 a2 a3 Q f V x4 x5 x6 → J G l MX6_ranksLine d c n 19 [(0, .ref t), (1, .int a1), (3, .int a3), (4, .int x4), (5, .int x5), (6, .int x6)] [] (mk sh V R) (jWv sh R Q) jNo := by
  intro f
  induction f with
  | zero =>
    intro V x4 x5 x6 hw
    rw [wX6_ranksLine_19] at hw
    exact hw.elim
  | succ f ih =>
    intro V x4 x5 x6 hw
    rw [wX6_ranksLine_19] at hw
    refine J.aload_n 0 dX6_ranksLine_19 rfl ?_
    refine gX6_25 rfl hT dX6_ranksLine_20 ?_
    refine J.iconst (v := (-1 : Int32)) dX6_ranksLine_23 (by decide) ?_
    refine J.icmp_ne 64 dX6_ranksLine_24 (by decide) ⟨fun c24 => ?_, fun c24 => ?_⟩
    · have hw := hw.1 c24
      exact (rX6_ranksLine_64 htr hdd hT hw)
    · have hw := hw.2 c24
      refine J.iload 4 dX6_ranksLine_27 rfl ?_
      refine J.iload 5 dX6_ranksLine_29 rfl ?_
      refine J.iadd dX6_ranksLine_31 ?_
      refine J.aload_n 0 dX6_ranksLine_32 rfl ?_
      refine gX6_90 rfl hT dX6_ranksLine_33 ?_
      refine J.icmp_ge 64 dX6_ranksLine_36 (by decide) ⟨fun c36 => ?_, fun c36 => ?_⟩
      · have hw := hw.1 c36
        exact (rX6_ranksLine_64 htr hdd hT hw)
      · have hw := hw.2 c36
        refine J.aload_n 0 dX6_ranksLine_39 rfl ?_
        refine J.iload 4 dX6_ranksLine_40 rfl ?_
        refine J.iload 5 dX6_ranksLine_42 rfl ?_
        refine J.iadd dX6_ranksLine_44 ?_
        refine kX6_93 rfl htr hT dX6_ranksLine_45 (by omega) (Nat.le_of_ble_eq_true rfl) hw (fun r45 hw => ?_)
        refine J.bipush (v := (48 : Int32)) dX6_ranksLine_48 (by decide) ?_
        refine J.bipush (v := (57 : Int32)) dX6_ranksLine_50 (by decide) ?_
        refine kX6_57 rfl htr dX6_ranksLine_52 (by omega) (Nat.le_of_ble_eq_true rfl) hw (fun r52 hw => ?_)
        refine J.if_eq 64 dX6_ranksLine_55 (by decide) ⟨fun c55 => ?_, fun c55 => ?_⟩
        · have hw := hw.1 c55
          exact (rX6_ranksLine_64 htr hdd hT hw)
        · have hw := hw.2 c55
          refine J.iincN 5 (K := (1 : Int32)) (lv' := fun y58 => [(6, .int y58), (0, .ref t), (1, .int a1), (3, .int a3), (4, .int x4), (5, .int x5)]) dX6_ranksLine_58 rfl (by decide) (by decide) (fun _ => rfl) hw (fun y58 hw => ?_)
          refine J.goto 19 dX6_ranksLine_61 (by decide) ?_
          exact J.pick [1, 2, 3, 4, 5, 0] rfl (ih _ _ _ _ hw)
def wX6_ranksLine (t : Nat) (V : Nat → Nat → Int32) (a1 : Int32) (a2 : Int32) (a3 : Int32) (Q : (Nat → Nat → Int32) → Prop) : Prop :=
  wX6_figures t V (0 : Int32) (a2 - (1 : Int32)) (fun r5 V5 => wX6_here t V5 (fun r11 V11 => (∃ f9, wX6_ranksLine_19 t a1 a2 a3 Q f9 V11 r5 r11 (0 : Int32))))
theorem mX6_ranksLine {G : jG} {l : Launch} (htr : l.stackTraces = false) {sh : List jH} {V : Nat → Nat → Int32} {R : Nat → Nat → Option Nat} {t : Nat} (hT : jReg shX6 sh t) {a1 : Int32} {a2 : Int32} {a3 : Int32} {Q : (Nat → Nat → Int32) → Prop} (hw : wX6_ranksLine t V a1 a2 a3 Q) : JM G l MX6_ranksLine 4 0 0 [.ref t, .int a1, .int a2, .int a3] (mk sh V R) (jWv sh R Q) jNo := by
  refine JM.intro (by decide) rfl htr (Nat.le_of_ble_eq_true rfl) ?_
  show J G l MX6_ranksLine 4 0 0 0 [(0, .ref t), (1, .int a1), (2, .int a2), (3, .int a3)] [] (mk sh V R) _ _
  unfold wX6_ranksLine at hw
  refine J.aload_n 0 dX6_ranksLine_0 rfl ?_
  refine J.iconst (v := (0 : Int32)) dX6_ranksLine_1 (by decide) ?_
  refine J.iload_n 2 dX6_ranksLine_2 rfl ?_
  refine J.iconst (v := (1 : Int32)) dX6_ranksLine_3 (by decide) ?_
  refine J.isub dX6_ranksLine_4 ?_
  refine kX6_121 rfl htr hT dX6_ranksLine_5 (by omega) (Nat.le_of_ble_eq_true rfl) hw (fun r5 V5 hw => ?_)
  refine J.istore (lv' := [(4, .int r5), (0, .ref t), (1, .int a1), (2, .int a2), (3, .int a3)]) dX6_ranksLine_8 (by decide) rfl ?_
  refine J.aload_n 1 dX6_ranksLine_10 rfl ?_
  refine kX6_110 rfl htr hT dX6_ranksLine_11 (by omega) (Nat.le_of_ble_eq_true rfl) hw (fun r11 V11 hw => ?_)
  refine J.istore (lv' := [(5, .int r11), (4, .int r5), (0, .ref t), (1, .int a1), (2, .int a2), (3, .int a3)]) dX6_ranksLine_14 (by decide) rfl ?_
  refine J.iconst (v := (0 : Int32)) dX6_ranksLine_16 (by decide) ?_
  refine J.istore (lv' := [(6, .int (0 : Int32)), (5, .int r11), (4, .int r5), (0, .ref t), (1, .int a1), (2, .int a2), (3, .int a3)]) dX6_ranksLine_17 (by decide) rfl ?_
  obtain ⟨f9, hw⟩ := hw
  exact J.pick [3, 4, 6, 2, 1, 0] rfl (rX6_ranksLine_19 htr (Nat.le_refl _) hT f9 _ _ _ _ hw)
-- VisitingHoursModel.tells(III)V
abbrev MX6_tells : jM := (yX6_tells, cX6_tells, 5, none, [])
def wX6_tells (t : Nat) (V : Nat → Nat → Int32) (a1 : Int32) (a2 : Int32) (a3 : Int32) (Q : (Nat → Nat → Int32) → Prop) : Prop :=
  wX6_figures t V a2 a3 (fun r3 V3 => ((¬ (V3 t 12) = (-1 : Int32) → Q V3) ∧ ((V3 t 12) = (-1 : Int32) → (vp_in a1 1019 ∧ Q (vset V3 (t + 1) a1.toNatClampNeg r3)))))
theorem mX6_tells {G : jG} {l : Launch} (htr : l.stackTraces = false) {sh : List jH} {V : Nat → Nat → Int32} {R : Nat → Nat → Option Nat} {t : Nat} (hT : jReg shX6 sh t) {a1 : Int32} {a2 : Int32} {a3 : Int32} {Q : (Nat → Nat → Int32) → Prop} (hw : wX6_tells t V a1 a2 a3 Q) : JM G l MX6_tells 4 0 0 [.ref t, .int a1, .int a2, .int a3] (mk sh V R) (jWv sh R Q) jNo := by
  refine JM.intro (by decide) rfl htr (Nat.le_of_ble_eq_true rfl) ?_
  show J G l MX6_tells 4 0 0 0 [(0, .ref t), (1, .int a1), (2, .int a2), (3, .int a3)] [] (mk sh V R) _ _
  unfold wX6_tells at hw
  refine J.aload_n 0 dX6_tells_0 rfl ?_
  refine J.iload_n 2 dX6_tells_1 rfl ?_
  refine J.iload_n 3 dX6_tells_2 rfl ?_
  refine kX6_121 rfl htr hT dX6_tells_3 (by omega) (Nat.le_of_ble_eq_true rfl) hw (fun r3 V3 hw => ?_)
  refine J.istore (lv' := [(4, .int r3), (0, .ref t), (1, .int a1), (2, .int a2), (3, .int a3)]) dX6_tells_6 (by decide) rfl ?_
  refine J.aload_n 1 dX6_tells_8 rfl ?_
  refine gX6_25 rfl hT dX6_tells_9 ?_
  refine J.iconst (v := (-1 : Int32)) dX6_tells_12 (by decide) ?_
  refine J.icmp_ne 24 dX6_tells_13 (by decide) ⟨fun c13 => ?_, fun c13 => ?_⟩
  · have hw := hw.1 c13
    exact J.vret rfl dX6_tells_24 ⟨_, rfl, rfl, hw⟩
  · have hw := hw.2 c13
    refine J.aload_n 1 dX6_tells_16 rfl ?_
    refine gX6_7 rfl hT dX6_tells_17 ?_
    refine J.iload_n 2 dX6_tells_20 rfl ?_
    refine J.iload 0 dX6_tells_21 rfl ?_
    obtain ⟨h23, hw⟩ := hw
    refine JV.iast dX6_tells_23 (hT.ge 1) (hT.at 1 rfl) h23 ?_
    exact J.vret rfl dX6_tells_24 ⟨_, rfl, rfl, hw⟩
