/-! ===== the law's own array of one long ===== -/
theorem jcl0 : (0 : Int32).toNatClampNeg = 0 := by decide
theorem jvp01 : vp_in (0 : Int32) 1 := vp_in_nI (show 0 < 1 by decide) (by decide)
theorem JV.last0 {G : jG} {l : Launch} {M : jM} {d c n pc : Nat} {lv : List (Nat × Value)} {st : List Value} {sh : List jH} {V : Nat → Nat → Int32} {R : Nat → Nat → Option Nat} {post : Option Value → List jC → Prop} {xp : String → List jC → Prop} {k : Nat} {f : Nat → Int64} {x : Int64} (hd : decode M.2.1 pc = .ok (.lastore, 1)) (hkn : jn ≤ k) (hk : sh[k]? = some (jF (.inl (3, 1, .inr (.inl f)))))
    (kk : J G l M d c n (pc + 1) lv st (mk (sh.set k (jF (.inl (3, 1, .inr (.inl (vp_updL f 0 x)))))) V R) post xp) : J G l M d c n pc lv (.long x :: .int 0 :: .ref k :: st) (mk sh V R) post xp :=
  J.last hd hkn (mk_atF hk) jvp01 (by rw [mk_setF hk, jcl0]; exact kk)
theorem JV.lald0 {G : jG} {l : Launch} {M : jM} {d c n pc : Nat} {lv : List (Nat × Value)} {st : List Value} {sh : List jH} {V : Nat → Nat → Int32} {R : Nat → Nat → Option Nat} {post : Option Value → List jC → Prop} {xp : String → List jC → Prop} {k : Nat} {f : Nat → Int64} (hd : decode M.2.1 pc = .ok (.laload, 1)) (hkn : jn ≤ k) (hk : sh[k]? = some (jF (.inl (3, 1, .inr (.inl f)))))
    (kk : J G l M d c n (pc + 1) lv (.long (f 0) :: st) (mk sh V R) post xp) : J G l M d c n pc lv (.int 0 :: .ref k :: st) (mk sh V R) post xp :=
  J.lald hd hkn (mk_atF hk) jvp01 (by rw [jcl0]; exact kk)
abbrev MX0_ground : jM := (yX0_ground, cX0_ground, 3, some .int, [(0, 8, 11, 13), (0, 8, 14, 15)])
theorem uX0_7 {G : jG} {l : Launch} {M : jM} {d c n pc : Nat} {lv : List (Nat × Value)} {rest : List Value} {post : Option Value → List jC → Prop} {xp : String → List jC → Prop} (hM : M.1.cls = RX0) (htr : l.stackTraces = false) {sh : List jH} {V : Nat → Nat → Int32} {R : Nat → Nat → Option Nat} {x : Nat} (hT : jReg shX1 sh x) {c1 n1 cq nq : Nat} {Q : Int32 → List jH → (Nat → Nat → Int32) → (Nat → Nat → Option Nat) → Prop} {X : String → List jH → (Nat → Nat → Int32) → (Nat → Nat → Option Nat) → Prop} (hd : decode M.2.1 pc = .ok (.invokevirtual 7, 3)) (hdd : 14 + 1 ≤ d) (hw8 : (rest.map fun v => v.category).sum ≤ 8) (hw : wX1_ground x sh V R c1 n1 Q X) (hcc : c1 + c ≤ cq ∧ n1 + n ≤ nq) (kk : ∀ r sh' V' R', Q r sh' V' R' → J G l M d c n (pc + 3) lv (.int r :: rest) (mk sh' V' R') post xp) (kx : ∀ E sh' V' R', X E sh' V' R' → JX G l M d c n pc lv E (mk sh' V' R') post xp) : J G l M d cq nq pc lv (.ref x :: rest) (mk sh V R) post xp := by
  exact J.callVX (As := []) (hcw := by rw [hM]; exact lw_VW q809 q810 q811 q144 q812) (mX1_ground htr (Nat.le_refl _) hT hw) hd rfl ⟨0, _, _, mk_at (hT.at 0 rfl), rfl, rfl, fun _ => rfl⟩ ⟨rfl, by decide, by decide, by show _ = some 0; decide +kernel⟩ hw8 ⟨hdd, by decide⟩ hcc (fun r9 g9 h9 => by obtain ⟨s9, V9, R9, rfl, r, rfl, h⟩ := h9; exact kk r s9 V9 R9 h) (fun E9 g9 h9 => by obtain ⟨s9, V9, R9, rfl, h⟩ := h9; exact kx E9 s9 V9 R9 h)
-- VisitingHoursLaw.ground(LVisitingHours;[J)I
def wX0_ground (x : Nat) (sh : List jH) (V : Nat → Nat → Int32) (R : Nat → Nat → Option Nat) (c : Nat) (n : Nat) (a2 : Nat) (Q : Int32 → List jH → (Nat → Nat → Int32) → (Nat → Nat → Option Nat) → Prop) : Prop :=
  (∃ c13 n13 c23 n23 : Nat, c13 + c23 ≤ c ∧ n13 + n23 ≤ n ∧ (wX1_ground x sh V R c13 n13 (fun r3 sh3 V3 R3 => (jReg shX1 sh3 x ∧ (∀ y7 : Int64, y7 = r3.toInt64 → (∃ f7 : Nat → Int64, sh3[a2]? = some (jF (.inl (3, 1, .inr (.inl f7)))) ∧ jn ≤ a2 ∧ (∀ sh7 : List jH, sh7 = sh3.set a2 (jF (.inl (3, 1, .inr (.inl (vp_updL f7 0 y7))))) → (jReg shX1 sh7 x ∧ Q (0 : Int32) sh7 V3 R3)))))) (fun E9 shx Vx Rx => (jReg shX1 shx x ∧ ((E9 = "java/lang/IllegalArgumentException" ∧ Q (1 : Int32) shx Vx Rx) ∨ (E9 = "java/lang/UnsupportedOperationException" ∧ Q (2 : Int32) shx Vx Rx))))))
theorem mX0_ground {G : jG} {l : Launch} {d : Nat} (htr : l.stackTraces = false) (hdd : 15 ≤ d) {sh : List jH} {V : Nat → Nat → Int32} {R : Nat → Nat → Option Nat} {c : Nat} {n : Nat} {x : Nat} (hT : jReg shX1 sh x) {a2 : Nat} {Q : Int32 → List jH → (Nat → Nat → Int32) → (Nat → Nat → Option Nat) → Prop} (hw : wX0_ground x sh V R c n a2 Q) : JM G l MX0_ground d c n [.ref x, .ref a2] (mk sh V R) (jSr Q) jNo := by
  refine JM.introH (h9 := _) (t9 := _) (by decide) rfl htr (Nat.le_of_ble_eq_true rfl) ?_
  show J G l MX0_ground d c n 0 [(0, .ref x), (1, .ref a2)] [] (mk sh V R) _ _
  unfold wX0_ground at hw
  refine J.aload_n 1 dX0_ground_0 rfl ?_
  refine J.iconst (v := (0 : Int32)) dX0_ground_1 (by decide) ?_
  refine J.aload_n 0 dX0_ground_2 rfl ?_
  obtain ⟨c13, n13, c23, n23, hc3, hd3, hw⟩ := hw
  refine uX0_7 rfl htr hT dX0_ground_3 (by omega) (Nat.le_of_ble_eq_true rfl) hw ⟨hc3, hd3⟩ ?_ ?_
  rotate_left
  · clear hw
    intro E9 shx Vx Rx hw
    clear hT
    obtain ⟨hT, hw⟩ := hw
    rcases hw with ⟨rfl, hw⟩ | ⟨rfl, hw⟩
    · refine JX.catch1 (nm := "java/lang/IllegalArgumentException") (tableOf []) (jent (0, 8, 11, 13)) (tableOf [(0, 8, 14, 15)]) rfl (fun _ h => absurd h List.not_mem_nil) (by decide) (by decide) q807 nw1003 dX0_ground_11 (by decide) ?_
      refine J.iconst (v := (1 : Int32)) dX0_ground_12 (by decide) ?_
      exact J.iret rfl dX0_ground_13 ⟨_, _, _, rfl, _, rfl, hw⟩
    · refine JX.catch1 (nm := "java/lang/UnsupportedOperationException") (tableOf [(0, 8, 11, 13)]) (jent (0, 8, 14, 15)) (tableOf []) rfl (List.forall_mem_cons.mpr ⟨Or.inr ⟨by decide, "java/lang/IllegalArgumentException", q807, List.mem_of_getElem? (i := 4) rfl⟩, (fun _ h => absurd h List.not_mem_nil)⟩) (by decide) (by decide) q808 nw1372 dX0_ground_14 (by decide) ?_
      refine J.iconst (v := (2 : Int32)) dX0_ground_15 (by decide) ?_
      exact J.iret rfl dX0_ground_16 ⟨_, _, _, rfl, _, rfl, hw⟩
  clear hw
  intro r3 sh3 V3 R3 hw
  clear hT
  obtain ⟨hT, hw⟩ := hw
  refine J.i2l dX0_ground_6 ?_
  refine J.nmL hw ?_
  clear hw
  intro y7 hw
  obtain ⟨f7, hk7, hn7, hw⟩ := hw
  refine JV.last0 dX0_ground_7 hn7 hk7 ?_
  refine J.nms hw ?_
  clear hw
  intro sh7 hw
  clear hT
  obtain ⟨hT, hw⟩ := hw
  refine J.goto 17 dX0_ground_8 (by decide) ?_
  refine J.iconst (v := (0 : Int32)) dX0_ground_17 (by decide) ?_
  exact J.iret rfl dX0_ground_18 ⟨_, _, _, rfl, _, rfl, hw⟩
abbrev MX0_law : jM := (yX0_law, cX0_law, 3, some .int, [(0, 8, 11, 13)])
theorem uX0_17 {G : jG} {l : Launch} {M : jM} {d c n pc : Nat} {lv : List (Nat × Value)} {rest : List Value} {post : Option Value → List jC → Prop} {xp : String → List jC → Prop} (hM : M.1.cls = RX0) (htr : l.stackTraces = false) {sh : List jH} {V : Nat → Nat → Int32} {R : Nat → Nat → Option Nat} {x : Nat} (hT : jReg shX1 sh x) {c1 n1 cq nq : Nat} {Q : Int32 → List jH → (Nat → Nat → Int32) → (Nat → Nat → Option Nat) → Prop} {X : String → List jH → (Nat → Nat → Int32) → (Nat → Nat → Option Nat) → Prop} (hd : decode M.2.1 pc = .ok (.invokevirtual 17, 3)) (hdd : 76 + 1 ≤ d) (hw8 : (rest.map fun v => v.category).sum ≤ 8) (hw : wX1_law x sh V R c1 n1 Q X) (hcc : c1 + c ≤ cq ∧ n1 + n ≤ nq) (kk : ∀ r sh' V' R', Q r sh' V' R' → J G l M d c n (pc + 3) lv (.int r :: rest) (mk sh' V' R') post xp) (kx : ∀ E sh' V' R', X E sh' V' R' → JX G l M d c n pc lv E (mk sh' V' R') post xp) : J G l M d cq nq pc lv (.ref x :: rest) (mk sh V R) post xp := by
  exact J.callVX (As := []) (hcw := by rw [hM]; exact lw_VW q1388 q1389 q1390 q144 q1391) (mX1_law htr (Nat.le_refl _) hT hw) hd rfl ⟨0, _, _, mk_at (hT.at 0 rfl), rfl, rfl, fun _ => rfl⟩ ⟨rfl, by decide, by decide, by show _ = some 0; decide +kernel⟩ hw8 ⟨hdd, by decide⟩ hcc (fun r9 g9 h9 => by obtain ⟨s9, V9, R9, rfl, r, rfl, h⟩ := h9; exact kk r s9 V9 R9 h) (fun E9 g9 h9 => by obtain ⟨s9, V9, R9, rfl, h⟩ := h9; exact kx E9 s9 V9 R9 h)
-- VisitingHoursLaw.law(LVisitingHours;[J)I
def wX0_law (x : Nat) (sh : List jH) (V : Nat → Nat → Int32) (R : Nat → Nat → Option Nat) (c : Nat) (n : Nat) (a2 : Nat) (Q : Int32 → List jH → (Nat → Nat → Int32) → (Nat → Nat → Option Nat) → Prop) : Prop :=
  (∃ c13 n13 c23 n23 : Nat, c13 + c23 ≤ c ∧ n13 + n23 ≤ n ∧ (wX1_law x sh V R c13 n13 (fun r3 sh3 V3 R3 => (jReg shX1 sh3 x ∧ (∀ y7 : Int64, y7 = r3.toInt64 → (∃ f7 : Nat → Int64, sh3[a2]? = some (jF (.inl (3, 1, .inr (.inl f7)))) ∧ jn ≤ a2 ∧ (∀ sh7 : List jH, sh7 = sh3.set a2 (jF (.inl (3, 1, .inr (.inl (vp_updL f7 0 y7))))) → (jReg shX1 sh7 x ∧ Q (0 : Int32) sh7 V3 R3)))))) (fun E9 shx Vx Rx => (jReg shX1 shx x ∧ ((E9 = "java/lang/IllegalArgumentException" ∧ Q (1 : Int32) shx Vx Rx))))))
theorem mX0_law {G : jG} {l : Launch} {d : Nat} (htr : l.stackTraces = false) (hdd : 77 ≤ d) {sh : List jH} {V : Nat → Nat → Int32} {R : Nat → Nat → Option Nat} {c : Nat} {n : Nat} {x : Nat} (hT : jReg shX1 sh x) {a2 : Nat} {Q : Int32 → List jH → (Nat → Nat → Int32) → (Nat → Nat → Option Nat) → Prop} (hw : wX0_law x sh V R c n a2 Q) : JM G l MX0_law d c n [.ref x, .ref a2] (mk sh V R) (jSr Q) jNo := by
  refine JM.introH (h9 := _) (t9 := _) (by decide) rfl htr (Nat.le_of_ble_eq_true rfl) ?_
  show J G l MX0_law d c n 0 [(0, .ref x), (1, .ref a2)] [] (mk sh V R) _ _
  unfold wX0_law at hw
  refine J.aload_n 1 dX0_law_0 rfl ?_
  refine J.iconst (v := (0 : Int32)) dX0_law_1 (by decide) ?_
  refine J.aload_n 0 dX0_law_2 rfl ?_
  obtain ⟨c13, n13, c23, n23, hc3, hd3, hw⟩ := hw
  refine uX0_17 rfl htr hT dX0_law_3 (by omega) (Nat.le_of_ble_eq_true rfl) hw ⟨hc3, hd3⟩ ?_ ?_
  rotate_left
  · clear hw
    intro E9 shx Vx Rx hw
    clear hT
    obtain ⟨hT, hw⟩ := hw
    obtain ⟨rfl, hw⟩ := hw
    refine JX.catch1 (nm := "java/lang/IllegalArgumentException") (tableOf []) (jent (0, 8, 11, 13)) (tableOf []) rfl (fun _ h => absurd h List.not_mem_nil) (by decide) (by decide) q807 nw1003 dX0_law_11 (by decide) ?_
    refine J.iconst (v := (1 : Int32)) dX0_law_12 (by decide) ?_
    exact J.iret rfl dX0_law_13 ⟨_, _, _, rfl, _, rfl, hw⟩
  clear hw
  intro r3 sh3 V3 R3 hw
  clear hT
  obtain ⟨hT, hw⟩ := hw
  refine J.i2l dX0_law_6 ?_
  refine J.nmL hw ?_
  clear hw
  intro y7 hw
  obtain ⟨f7, hk7, hn7, hw⟩ := hw
  refine JV.last0 dX0_law_7 hn7 hk7 ?_
  refine J.nms hw ?_
  clear hw
  intro sh7 hw
  clear hT
  obtain ⟨hT, hw⟩ := hw
  refine J.goto 14 dX0_law_8 (by decide) ?_
  refine J.iconst (v := (0 : Int32)) dX0_law_14 (by decide) ?_
  exact J.iret rfl dX0_law_15 ⟨_, _, _, rfl, _, rfl, hw⟩
abbrev MX0_host : jM := (yX0_host, cX0_host, 5, some .int, [(0, 10, 13, 24), (0, 10, 17, 26)])
theorem uX0_20 {G : jG} {l : Launch} {M : jM} {d c n pc : Nat} {lv : List (Nat × Value)} {rest : List Value} {post : Option Value → List jC → Prop} {xp : String → List jC → Prop} (hM : M.1.cls = RX0) (htr : l.stackTraces = false) {sh : List jH} {V : Nat → Nat → Int32} {R : Nat → Nat → Option Nat} {x : Nat} (hT : jReg shX1 sh x) {a1 : Int32} {a2 : Int32} {Q : Int32 → Prop} (hd : decode M.2.1 pc = .ok (.invokevirtual 20, 3)) (hdd : 10 + 1 ≤ d) (hw8 : (rest.map fun v => v.category).sum ≤ 8) (hw : wX1_host x V a1 a2 Q (fun _ => False)) (kk : ∀ r, Q r → J G l M d c n (pc + 3) lv (.int r :: rest) (mk sh V R) post xp) : J G l M d c n pc lv (.int a2 :: .int a1 :: .ref x :: rest) (mk sh V R) post xp := by
  exact J.callV (c' := 0) (n' := 0) (As := [.int a1, .int a2]) (hcw := by rw [hM]; exact lw_V q1657 q1658 q1659 q144 q1660) (mX1_host htr hT hw (Or.inl (fun _ h => h))) hd rfl ⟨0, _, _, mk_at (hT.at 0 rfl), rfl, rfl, fun _ => rfl⟩ ⟨rfl, by decide, by decide, by show _ = some 2; decide +kernel⟩ hw8 ⟨hdd, by decide⟩ jcc0 (fun r9 g9 h9 => by obtain ⟨rfl, r, rfl, h⟩ := h9; exact kk r h) (fun E9 g9 h9 => by obtain ⟨_, h⟩ := h9; exact h.elim)
theorem uxX0_20 {G : jG} {l : Launch} {M : jM} {d c n pc : Nat} {lv : List (Nat × Value)} {rest : List Value} {post : Option Value → List jC → Prop} {xp : String → List jC → Prop} (hM : M.1.cls = RX0) (htr : l.stackTraces = false) {sh : List jH} {V : Nat → Nat → Int32} {R : Nat → Nat → Option Nat} {x : Nat} (hT : jReg shX1 sh x) {a1 : Int32} {a2 : Int32} {X : String → Prop} (hd : decode M.2.1 pc = .ok (.invokevirtual 20, 3)) (hdd : 10 + 1 ≤ d) (hw8 : (rest.map fun v => v.category).sum ≤ 8) (hw : wX1_host x V a1 a2 (fun _ => False) X) (hb : (∀ E, ¬ X E) ∨ 1 ≤ c ∧ 6 ≤ n) (kx : ∀ E, X E → JX G l M d 0 0 pc lv E (mk sh V R) post xp) : J G l M d c n pc lv (.int a2 :: .int a1 :: .ref x :: rest) (mk sh V R) post xp := by
  exact J.callV (c := 0) (n := 0) (c' := c) (n' := n) (As := [.int a1, .int a2]) (hcw := by rw [hM]; exact lw_V q1657 q1658 q1659 q144 q1660) (mX1_host htr hT hw hb) hd rfl ⟨0, _, _, mk_at (hT.at 0 rfl), rfl, rfl, fun _ => rfl⟩ ⟨rfl, by decide, by decide, by show _ = some 2; decide +kernel⟩ hw8 ⟨hdd, by decide⟩ ⟨by omega, by omega⟩ (fun r9 g9 h9 => by obtain ⟨_, _, _, h⟩ := h9; exact h.elim) (fun E9 g9 h9 => by obtain ⟨rfl, h⟩ := h9; exact kx E9 h)
-- VisitingHoursLaw.host(LVisitingHours;II[J)I
def wX0_host (x : Nat) (sh : List jH) (V : Nat → Nat → Int32) (R : Nat → Nat → Option Nat) (c : Nat) (n : Nat) (a2 : Int32) (a3 : Int32) (a4 : Nat) (Q : Int32 → List jH → (Nat → Nat → Int32) → (Nat → Nat → Option Nat) → Prop) : Prop :=
  ((wX1_host x V a2 a3 (fun r5 => (∀ y9 : Int64, y9 = r5.toInt64 → (∃ f9 : Nat → Int64, sh[a4]? = some (jF (.inl (3, 1, .inr (.inl f9)))) ∧ jn ≤ a4 ∧ (∀ sh9 : List jH, sh9 = sh.set a4 (jF (.inl (3, 1, .inr (.inl (vp_updL f9 0 y9))))) → (jReg shX1 sh9 x ∧ Q (0 : Int32) sh9 V R))))) (fun _ => False)) ∨ (wX1_host x V a2 a3 (fun _ => False) (fun E9 => ((E9 = "java/lang/IndexOutOfBoundsException" ∧ Q (1 : Int32) sh V R) ∨ (E9 = "java/util/NoSuchElementException" ∧ Q (2 : Int32) sh V R))) ∧ 1 ≤ c ∧ 6 ≤ n))
theorem mX0_host {G : jG} {l : Launch} {d : Nat} (htr : l.stackTraces = false) (hdd : 11 ≤ d) {sh : List jH} {V : Nat → Nat → Int32} {R : Nat → Nat → Option Nat} {c : Nat} {n : Nat} {x : Nat} (hT : jReg shX1 sh x) {a2 : Int32} {a3 : Int32} {a4 : Nat} {Q : Int32 → List jH → (Nat → Nat → Int32) → (Nat → Nat → Option Nat) → Prop} (hw : wX0_host x sh V R c n a2 a3 a4 Q) : JM G l MX0_host d c n [.ref x, .int a2, .int a3, .ref a4] (mk sh V R) (jSr Q) jNo := by
  refine JM.introH (h9 := _) (t9 := _) (by decide) rfl htr (Nat.le_of_ble_eq_true rfl) ?_
  show J G l MX0_host d c n 0 [(0, .ref x), (1, .int a2), (2, .int a3), (3, .ref a4)] [] (mk sh V R) _ _
  unfold wX0_host at hw
  refine J.aload_n 3 dX0_host_0 rfl ?_
  refine J.iconst (v := (0 : Int32)) dX0_host_1 (by decide) ?_
  refine J.aload_n 0 dX0_host_2 rfl ?_
  refine J.iload_n 1 dX0_host_3 rfl ?_
  refine J.iload_n 2 dX0_host_4 rfl ?_
  rcases hw with hw | hw
  rotate_left
  · refine uxX0_20 rfl htr hT dX0_host_5 (by omega) (Nat.le_of_ble_eq_true rfl) hw.1 (Or.inr hw.2) ?_
    clear hw
    intro E9 hw
    rcases hw with ⟨rfl, hw⟩ | ⟨rfl, hw⟩
    · refine JX.catch2 (nm := "java/lang/IndexOutOfBoundsException") (tableOf []) (jent (0, 10, 13, 24)) (tableOf [(0, 10, 17, 26)]) rfl (fun _ h => absurd h List.not_mem_nil) (by decide) (by decide) q1637 nw1670 dX0_host_13 (by decide) ?_
      refine J.iconst (v := (1 : Int32)) dX0_host_15 (by decide) ?_
      exact J.iret rfl dX0_host_16 ⟨_, _, _, rfl, _, rfl, hw⟩
    · refine JX.catch2 (nm := "java/util/NoSuchElementException") (tableOf [(0, 10, 13, 24)]) (jent (0, 10, 17, 26)) (tableOf []) rfl (List.forall_mem_cons.mpr ⟨Or.inr ⟨by decide, "java/lang/IndexOutOfBoundsException", q1637, List.mem_of_getElem? (i := 1) rfl⟩, (fun _ h => absurd h List.not_mem_nil)⟩) (by decide) (by decide) q1656 nw1688 dX0_host_17 (by decide) ?_
      refine J.iconst (v := (2 : Int32)) dX0_host_19 (by decide) ?_
      exact J.iret rfl dX0_host_20 ⟨_, _, _, rfl, _, rfl, hw⟩
  refine uX0_20 rfl htr hT dX0_host_5 (by omega) (Nat.le_of_ble_eq_true rfl) hw ?_
  clear hw
  intro r5 hw
  refine J.i2l dX0_host_8 ?_
  refine J.nmL hw ?_
  clear hw
  intro y9 hw
  obtain ⟨f9, hk9, hn9, hw⟩ := hw
  refine JV.last0 dX0_host_9 hn9 hk9 ?_
  refine J.nms hw ?_
  clear hw
  intro sh9 hw
  clear hT
  obtain ⟨hT, hw⟩ := hw
  refine J.goto 21 dX0_host_10 (by decide) ?_
  refine J.iconst (v := (0 : Int32)) dX0_host_21 (by decide) ?_
  exact J.iret rfl dX0_host_22 ⟨_, _, _, rfl, _, rfl, hw⟩
abbrev MX0_guest : jM := (yX0_guest, cX0_guest, 5, some .int, [(0, 10, 13, 24), (0, 10, 17, 26)])
theorem uX0_28 {G : jG} {l : Launch} {M : jM} {d c n pc : Nat} {lv : List (Nat × Value)} {rest : List Value} {post : Option Value → List jC → Prop} {xp : String → List jC → Prop} (hM : M.1.cls = RX0) (htr : l.stackTraces = false) {sh : List jH} {V : Nat → Nat → Int32} {R : Nat → Nat → Option Nat} {x : Nat} (hT : jReg shX1 sh x) {a1 : Int32} {a2 : Int32} {Q : Int32 → Prop} (hd : decode M.2.1 pc = .ok (.invokevirtual 28, 3)) (hdd : 10 + 1 ≤ d) (hw8 : (rest.map fun v => v.category).sum ≤ 8) (hw : wX1_guest x V a1 a2 Q (fun _ => False)) (kk : ∀ r, Q r → J G l M d c n (pc + 3) lv (.int r :: rest) (mk sh V R) post xp) : J G l M d c n pc lv (.int a2 :: .int a1 :: .ref x :: rest) (mk sh V R) post xp := by
  exact J.callV (c' := 0) (n' := 0) (As := [.int a1, .int a2]) (hcw := by rw [hM]; exact lw_V q1712 q1713 q1714 q144 q1715) (mX1_guest htr hT hw (Or.inl (fun _ h => h))) hd rfl ⟨0, _, _, mk_at (hT.at 0 rfl), rfl, rfl, fun _ => rfl⟩ ⟨rfl, by decide, by decide, by show _ = some 2; decide +kernel⟩ hw8 ⟨hdd, by decide⟩ jcc0 (fun r9 g9 h9 => by obtain ⟨rfl, r, rfl, h⟩ := h9; exact kk r h) (fun E9 g9 h9 => by obtain ⟨_, h⟩ := h9; exact h.elim)
theorem uxX0_28 {G : jG} {l : Launch} {M : jM} {d c n pc : Nat} {lv : List (Nat × Value)} {rest : List Value} {post : Option Value → List jC → Prop} {xp : String → List jC → Prop} (hM : M.1.cls = RX0) (htr : l.stackTraces = false) {sh : List jH} {V : Nat → Nat → Int32} {R : Nat → Nat → Option Nat} {x : Nat} (hT : jReg shX1 sh x) {a1 : Int32} {a2 : Int32} {X : String → Prop} (hd : decode M.2.1 pc = .ok (.invokevirtual 28, 3)) (hdd : 10 + 1 ≤ d) (hw8 : (rest.map fun v => v.category).sum ≤ 8) (hw : wX1_guest x V a1 a2 (fun _ => False) X) (hb : (∀ E, ¬ X E) ∨ 1 ≤ c ∧ 6 ≤ n) (kx : ∀ E, X E → JX G l M d 0 0 pc lv E (mk sh V R) post xp) : J G l M d c n pc lv (.int a2 :: .int a1 :: .ref x :: rest) (mk sh V R) post xp := by
  exact J.callV (c := 0) (n := 0) (c' := c) (n' := n) (As := [.int a1, .int a2]) (hcw := by rw [hM]; exact lw_V q1712 q1713 q1714 q144 q1715) (mX1_guest htr hT hw hb) hd rfl ⟨0, _, _, mk_at (hT.at 0 rfl), rfl, rfl, fun _ => rfl⟩ ⟨rfl, by decide, by decide, by show _ = some 2; decide +kernel⟩ hw8 ⟨hdd, by decide⟩ ⟨by omega, by omega⟩ (fun r9 g9 h9 => by obtain ⟨_, _, _, h⟩ := h9; exact h.elim) (fun E9 g9 h9 => by obtain ⟨rfl, h⟩ := h9; exact kx E9 h)
-- VisitingHoursLaw.guest(LVisitingHours;II[J)I
def wX0_guest (x : Nat) (sh : List jH) (V : Nat → Nat → Int32) (R : Nat → Nat → Option Nat) (c : Nat) (n : Nat) (a2 : Int32) (a3 : Int32) (a4 : Nat) (Q : Int32 → List jH → (Nat → Nat → Int32) → (Nat → Nat → Option Nat) → Prop) : Prop :=
  ((wX1_guest x V a2 a3 (fun r5 => (∀ y9 : Int64, y9 = r5.toInt64 → (∃ f9 : Nat → Int64, sh[a4]? = some (jF (.inl (3, 1, .inr (.inl f9)))) ∧ jn ≤ a4 ∧ (∀ sh9 : List jH, sh9 = sh.set a4 (jF (.inl (3, 1, .inr (.inl (vp_updL f9 0 y9))))) → (jReg shX1 sh9 x ∧ Q (0 : Int32) sh9 V R))))) (fun _ => False)) ∨ (wX1_guest x V a2 a3 (fun _ => False) (fun E9 => ((E9 = "java/lang/IndexOutOfBoundsException" ∧ Q (1 : Int32) sh V R) ∨ (E9 = "java/util/NoSuchElementException" ∧ Q (2 : Int32) sh V R))) ∧ 1 ≤ c ∧ 6 ≤ n))
theorem mX0_guest {G : jG} {l : Launch} {d : Nat} (htr : l.stackTraces = false) (hdd : 11 ≤ d) {sh : List jH} {V : Nat → Nat → Int32} {R : Nat → Nat → Option Nat} {c : Nat} {n : Nat} {x : Nat} (hT : jReg shX1 sh x) {a2 : Int32} {a3 : Int32} {a4 : Nat} {Q : Int32 → List jH → (Nat → Nat → Int32) → (Nat → Nat → Option Nat) → Prop} (hw : wX0_guest x sh V R c n a2 a3 a4 Q) : JM G l MX0_guest d c n [.ref x, .int a2, .int a3, .ref a4] (mk sh V R) (jSr Q) jNo := by
  refine JM.introH (h9 := _) (t9 := _) (by decide) rfl htr (Nat.le_of_ble_eq_true rfl) ?_
  show J G l MX0_guest d c n 0 [(0, .ref x), (1, .int a2), (2, .int a3), (3, .ref a4)] [] (mk sh V R) _ _
  unfold wX0_guest at hw
  refine J.aload_n 3 dX0_guest_0 rfl ?_
  refine J.iconst (v := (0 : Int32)) dX0_guest_1 (by decide) ?_
  refine J.aload_n 0 dX0_guest_2 rfl ?_
  refine J.iload_n 1 dX0_guest_3 rfl ?_
  refine J.iload_n 2 dX0_guest_4 rfl ?_
  rcases hw with hw | hw
  rotate_left
  · refine uxX0_28 rfl htr hT dX0_guest_5 (by omega) (Nat.le_of_ble_eq_true rfl) hw.1 (Or.inr hw.2) ?_
    clear hw
    intro E9 hw
    rcases hw with ⟨rfl, hw⟩ | ⟨rfl, hw⟩
    · refine JX.catch2 (nm := "java/lang/IndexOutOfBoundsException") (tableOf []) (jent (0, 10, 13, 24)) (tableOf [(0, 10, 17, 26)]) rfl (fun _ h => absurd h List.not_mem_nil) (by decide) (by decide) q1637 nw1670 dX0_guest_13 (by decide) ?_
      refine J.iconst (v := (1 : Int32)) dX0_guest_15 (by decide) ?_
      exact J.iret rfl dX0_guest_16 ⟨_, _, _, rfl, _, rfl, hw⟩
    · refine JX.catch2 (nm := "java/util/NoSuchElementException") (tableOf [(0, 10, 13, 24)]) (jent (0, 10, 17, 26)) (tableOf []) rfl (List.forall_mem_cons.mpr ⟨Or.inr ⟨by decide, "java/lang/IndexOutOfBoundsException", q1637, List.mem_of_getElem? (i := 1) rfl⟩, (fun _ h => absurd h List.not_mem_nil)⟩) (by decide) (by decide) q1656 nw1688 dX0_guest_17 (by decide) ?_
      refine J.iconst (v := (2 : Int32)) dX0_guest_19 (by decide) ?_
      exact J.iret rfl dX0_guest_20 ⟨_, _, _, rfl, _, rfl, hw⟩
  refine uX0_28 rfl htr hT dX0_guest_5 (by omega) (Nat.le_of_ble_eq_true rfl) hw ?_
  clear hw
  intro r5 hw
  refine J.i2l dX0_guest_8 ?_
  refine J.nmL hw ?_
  clear hw
  intro y9 hw
  obtain ⟨f9, hk9, hn9, hw⟩ := hw
  refine JV.last0 dX0_guest_9 hn9 hk9 ?_
  refine J.nms hw ?_
  clear hw
  intro sh9 hw
  clear hT
  obtain ⟨hT, hw⟩ := hw
  refine J.goto 21 dX0_guest_10 (by decide) ?_
  refine J.iconst (v := (0 : Int32)) dX0_guest_21 (by decide) ?_
  exact J.iret rfl dX0_guest_22 ⟨_, _, _, rfl, _, rfl, hw⟩
abbrev MX0_rank : jM := (yX0_rank, cX0_rank, 6, some .int, [(0, 12, 15, 24)])
theorem uX0_31 {G : jG} {l : Launch} {M : jM} {d c n pc : Nat} {lv : List (Nat × Value)} {rest : List Value} {post : Option Value → List jC → Prop} {xp : String → List jC → Prop} (hM : M.1.cls = RX0) (htr : l.stackTraces = false) {sh : List jH} {V : Nat → Nat → Int32} {R : Nat → Nat → Option Nat} {x : Nat} (hT : jReg shX1 sh x) {a1 : Int32} {a2 : Int32} {a3 : Int32} {Q : Int32 → Prop} (hd : decode M.2.1 pc = .ok (.invokevirtual 31, 3)) (hdd : 10 + 1 ≤ d) (hw8 : (rest.map fun v => v.category).sum ≤ 8) (hw : wX1_rank x V a1 a2 a3 Q (fun _ => False)) (kk : ∀ r, Q r → J G l M d c n (pc + 3) lv (.int r :: rest) (mk sh V R) post xp) : J G l M d c n pc lv (.int a3 :: .int a2 :: .int a1 :: .ref x :: rest) (mk sh V R) post xp := by
  exact J.callV (c' := 0) (n' := 0) (As := [.int a1, .int a2, .int a3]) (hcw := by rw [hM]; exact lw_V q1727 q1728 q1729 q144 q1730) (mX1_rank htr hT hw (Or.inl (fun _ h => h))) hd rfl ⟨0, _, _, mk_at (hT.at 0 rfl), rfl, rfl, fun _ => rfl⟩ ⟨rfl, by decide, by decide, by show _ = some 3; decide +kernel⟩ hw8 ⟨hdd, by decide⟩ jcc0 (fun r9 g9 h9 => by obtain ⟨rfl, r, rfl, h⟩ := h9; exact kk r h) (fun E9 g9 h9 => by obtain ⟨_, h⟩ := h9; exact h.elim)
theorem uxX0_31 {G : jG} {l : Launch} {M : jM} {d c n pc : Nat} {lv : List (Nat × Value)} {rest : List Value} {post : Option Value → List jC → Prop} {xp : String → List jC → Prop} (hM : M.1.cls = RX0) (htr : l.stackTraces = false) {sh : List jH} {V : Nat → Nat → Int32} {R : Nat → Nat → Option Nat} {x : Nat} (hT : jReg shX1 sh x) {a1 : Int32} {a2 : Int32} {a3 : Int32} {X : String → Prop} (hd : decode M.2.1 pc = .ok (.invokevirtual 31, 3)) (hdd : 10 + 1 ≤ d) (hw8 : (rest.map fun v => v.category).sum ≤ 8) (hw : wX1_rank x V a1 a2 a3 (fun _ => False) X) (hb : (∀ E, ¬ X E) ∨ 1 ≤ c ∧ 6 ≤ n) (kx : ∀ E, X E → JX G l M d 0 0 pc lv E (mk sh V R) post xp) : J G l M d c n pc lv (.int a3 :: .int a2 :: .int a1 :: .ref x :: rest) (mk sh V R) post xp := by
  exact J.callV (c := 0) (n := 0) (c' := c) (n' := n) (As := [.int a1, .int a2, .int a3]) (hcw := by rw [hM]; exact lw_V q1727 q1728 q1729 q144 q1730) (mX1_rank htr hT hw hb) hd rfl ⟨0, _, _, mk_at (hT.at 0 rfl), rfl, rfl, fun _ => rfl⟩ ⟨rfl, by decide, by decide, by show _ = some 3; decide +kernel⟩ hw8 ⟨hdd, by decide⟩ ⟨by omega, by omega⟩ (fun r9 g9 h9 => by obtain ⟨_, _, _, h⟩ := h9; exact h.elim) (fun E9 g9 h9 => by obtain ⟨rfl, h⟩ := h9; exact kx E9 h)
-- VisitingHoursLaw.rank(LVisitingHours;IIZ[J)I
def wX0_rank (x : Nat) (sh : List jH) (V : Nat → Nat → Int32) (R : Nat → Nat → Option Nat) (c : Nat) (n : Nat) (a2 : Int32) (a3 : Int32) (a4 : Int32) (a5 : Nat) (Q : Int32 → List jH → (Nat → Nat → Int32) → (Nat → Nat → Option Nat) → Prop) : Prop :=
  ((wX1_rank x V a2 a3 a4 (fun r7 => (∀ y11 : Int64, y11 = r7.toInt64 → (∃ f11 : Nat → Int64, sh[a5]? = some (jF (.inl (3, 1, .inr (.inl f11)))) ∧ jn ≤ a5 ∧ (∀ sh11 : List jH, sh11 = sh.set a5 (jF (.inl (3, 1, .inr (.inl (vp_updL f11 0 y11))))) → (jReg shX1 sh11 x ∧ Q (0 : Int32) sh11 V R))))) (fun _ => False)) ∨ (wX1_rank x V a2 a3 a4 (fun _ => False) (fun E9 => ((E9 = "java/lang/IndexOutOfBoundsException" ∧ Q (1 : Int32) sh V R))) ∧ 1 ≤ c ∧ 6 ≤ n))
theorem mX0_rank {G : jG} {l : Launch} {d : Nat} (htr : l.stackTraces = false) (hdd : 11 ≤ d) {sh : List jH} {V : Nat → Nat → Int32} {R : Nat → Nat → Option Nat} {c : Nat} {n : Nat} {x : Nat} (hT : jReg shX1 sh x) {a2 : Int32} {a3 : Int32} {a4 : Int32} {a5 : Nat} {Q : Int32 → List jH → (Nat → Nat → Int32) → (Nat → Nat → Option Nat) → Prop} (hw : wX0_rank x sh V R c n a2 a3 a4 a5 Q) : JM G l MX0_rank d c n [.ref x, .int a2, .int a3, .int a4, .ref a5] (mk sh V R) (jSr Q) jNo := by
  refine JM.introH (h9 := _) (t9 := _) (by decide) rfl htr (Nat.le_of_ble_eq_true rfl) ?_
  show J G l MX0_rank d c n 0 [(0, .ref x), (1, .int a2), (2, .int a3), (3, .int a4), (4, .ref a5)] [] (mk sh V R) _ _
  unfold wX0_rank at hw
  refine J.aload 4 dX0_rank_0 rfl ?_
  refine J.iconst (v := (0 : Int32)) dX0_rank_2 (by decide) ?_
  refine J.aload_n 0 dX0_rank_3 rfl ?_
  refine J.iload_n 1 dX0_rank_4 rfl ?_
  refine J.iload_n 2 dX0_rank_5 rfl ?_
  refine J.iload_n 3 dX0_rank_6 rfl ?_
  rcases hw with hw | hw
  rotate_left
  · refine uxX0_31 rfl htr hT dX0_rank_7 (by omega) (Nat.le_of_ble_eq_true rfl) hw.1 (Or.inr hw.2) ?_
    clear hw
    intro E9 hw
    obtain ⟨rfl, hw⟩ := hw
    refine JX.catch2 (nm := "java/lang/IndexOutOfBoundsException") (tableOf []) (jent (0, 12, 15, 24)) (tableOf []) rfl (fun _ h => absurd h List.not_mem_nil) (by decide) (by decide) q1637 nw1670 dX0_rank_15 (by decide) ?_
    refine J.iconst (v := (1 : Int32)) dX0_rank_17 (by decide) ?_
    exact J.iret rfl dX0_rank_18 ⟨_, _, _, rfl, _, rfl, hw⟩
  refine uX0_31 rfl htr hT dX0_rank_7 (by omega) (Nat.le_of_ble_eq_true rfl) hw ?_
  clear hw
  intro r7 hw
  refine J.i2l dX0_rank_10 ?_
  refine J.nmL hw ?_
  clear hw
  intro y11 hw
  obtain ⟨f11, hk11, hn11, hw⟩ := hw
  refine JV.last0 dX0_rank_11 hn11 hk11 ?_
  refine J.nms hw ?_
  clear hw
  intro sh11 hw
  clear hT
  obtain ⟨hT, hw⟩ := hw
  refine J.goto 19 dX0_rank_12 (by decide) ?_
  refine J.iconst (v := (0 : Int32)) dX0_rank_19 (by decide) ?_
  exact J.iret rfl dX0_rank_20 ⟨_, _, _, rfl, _, rfl, hw⟩
abbrev MX0_booked : jM := (yX0_booked, cX0_booked, 5, some .int, [(0, 10, 13, 24)])
theorem uX0_35 {G : jG} {l : Launch} {M : jM} {d c n pc : Nat} {lv : List (Nat × Value)} {rest : List Value} {post : Option Value → List jC → Prop} {xp : String → List jC → Prop} (hM : M.1.cls = RX0) (htr : l.stackTraces = false) {sh : List jH} {V : Nat → Nat → Int32} {R : Nat → Nat → Option Nat} {x : Nat} (hT : jReg shX1 sh x) {a1 : Int32} {a2 : Int32} {Q : Int32 → Prop} (hd : decode M.2.1 pc = .ok (.invokevirtual 35, 3)) (hdd : 10 + 1 ≤ d) (hw8 : (rest.map fun v => v.category).sum ≤ 8) (hw : wX1_booked x V a1 a2 Q (fun _ => False)) (kk : ∀ r, Q r → J G l M d c n (pc + 3) lv (.int r :: rest) (mk sh V R) post xp) : J G l M d c n pc lv (.int a2 :: .int a1 :: .ref x :: rest) (mk sh V R) post xp := by
  exact J.callV (c' := 0) (n' := 0) (As := [.int a1, .int a2]) (hcw := by rw [hM]; exact lw_V q1734 q1735 q1736 q144 q1737) (mX1_booked htr hT hw (Or.inl (fun _ h => h))) hd rfl ⟨0, _, _, mk_at (hT.at 0 rfl), rfl, rfl, fun _ => rfl⟩ ⟨rfl, by decide, by decide, by show _ = some 2; decide +kernel⟩ hw8 ⟨hdd, by decide⟩ jcc0 (fun r9 g9 h9 => by obtain ⟨rfl, r, rfl, h⟩ := h9; exact kk r h) (fun E9 g9 h9 => by obtain ⟨_, h⟩ := h9; exact h.elim)
theorem uxX0_35 {G : jG} {l : Launch} {M : jM} {d c n pc : Nat} {lv : List (Nat × Value)} {rest : List Value} {post : Option Value → List jC → Prop} {xp : String → List jC → Prop} (hM : M.1.cls = RX0) (htr : l.stackTraces = false) {sh : List jH} {V : Nat → Nat → Int32} {R : Nat → Nat → Option Nat} {x : Nat} (hT : jReg shX1 sh x) {a1 : Int32} {a2 : Int32} {X : String → Prop} (hd : decode M.2.1 pc = .ok (.invokevirtual 35, 3)) (hdd : 10 + 1 ≤ d) (hw8 : (rest.map fun v => v.category).sum ≤ 8) (hw : wX1_booked x V a1 a2 (fun _ => False) X) (hb : (∀ E, ¬ X E) ∨ 1 ≤ c ∧ 6 ≤ n) (kx : ∀ E, X E → JX G l M d 0 0 pc lv E (mk sh V R) post xp) : J G l M d c n pc lv (.int a2 :: .int a1 :: .ref x :: rest) (mk sh V R) post xp := by
  exact J.callV (c := 0) (n := 0) (c' := c) (n' := n) (As := [.int a1, .int a2]) (hcw := by rw [hM]; exact lw_V q1734 q1735 q1736 q144 q1737) (mX1_booked htr hT hw hb) hd rfl ⟨0, _, _, mk_at (hT.at 0 rfl), rfl, rfl, fun _ => rfl⟩ ⟨rfl, by decide, by decide, by show _ = some 2; decide +kernel⟩ hw8 ⟨hdd, by decide⟩ ⟨by omega, by omega⟩ (fun r9 g9 h9 => by obtain ⟨_, _, _, h⟩ := h9; exact h.elim) (fun E9 g9 h9 => by obtain ⟨rfl, h⟩ := h9; exact kx E9 h)
-- VisitingHoursLaw.booked(LVisitingHours;II[J)I
def wX0_booked (x : Nat) (sh : List jH) (V : Nat → Nat → Int32) (R : Nat → Nat → Option Nat) (c : Nat) (n : Nat) (a2 : Int32) (a3 : Int32) (a4 : Nat) (Q : Int32 → List jH → (Nat → Nat → Int32) → (Nat → Nat → Option Nat) → Prop) : Prop :=
  ((wX1_booked x V a2 a3 (fun r5 => (∀ y9 : Int64, y9 = r5.toInt64 → (∃ f9 : Nat → Int64, sh[a4]? = some (jF (.inl (3, 1, .inr (.inl f9)))) ∧ jn ≤ a4 ∧ (∀ sh9 : List jH, sh9 = sh.set a4 (jF (.inl (3, 1, .inr (.inl (vp_updL f9 0 y9))))) → (jReg shX1 sh9 x ∧ Q (0 : Int32) sh9 V R))))) (fun _ => False)) ∨ (wX1_booked x V a2 a3 (fun _ => False) (fun E9 => ((E9 = "java/lang/IndexOutOfBoundsException" ∧ Q (1 : Int32) sh V R))) ∧ 1 ≤ c ∧ 6 ≤ n))
theorem mX0_booked {G : jG} {l : Launch} {d : Nat} (htr : l.stackTraces = false) (hdd : 11 ≤ d) {sh : List jH} {V : Nat → Nat → Int32} {R : Nat → Nat → Option Nat} {c : Nat} {n : Nat} {x : Nat} (hT : jReg shX1 sh x) {a2 : Int32} {a3 : Int32} {a4 : Nat} {Q : Int32 → List jH → (Nat → Nat → Int32) → (Nat → Nat → Option Nat) → Prop} (hw : wX0_booked x sh V R c n a2 a3 a4 Q) : JM G l MX0_booked d c n [.ref x, .int a2, .int a3, .ref a4] (mk sh V R) (jSr Q) jNo := by
  refine JM.introH (h9 := _) (t9 := _) (by decide) rfl htr (Nat.le_of_ble_eq_true rfl) ?_
  show J G l MX0_booked d c n 0 [(0, .ref x), (1, .int a2), (2, .int a3), (3, .ref a4)] [] (mk sh V R) _ _
  unfold wX0_booked at hw
  refine J.aload_n 3 dX0_booked_0 rfl ?_
  refine J.iconst (v := (0 : Int32)) dX0_booked_1 (by decide) ?_
  refine J.aload_n 0 dX0_booked_2 rfl ?_
  refine J.iload_n 1 dX0_booked_3 rfl ?_
  refine J.iload_n 2 dX0_booked_4 rfl ?_
  rcases hw with hw | hw
  rotate_left
  · refine uxX0_35 rfl htr hT dX0_booked_5 (by omega) (Nat.le_of_ble_eq_true rfl) hw.1 (Or.inr hw.2) ?_
    clear hw
    intro E9 hw
    obtain ⟨rfl, hw⟩ := hw
    refine JX.catch2 (nm := "java/lang/IndexOutOfBoundsException") (tableOf []) (jent (0, 10, 13, 24)) (tableOf []) rfl (fun _ h => absurd h List.not_mem_nil) (by decide) (by decide) q1637 nw1670 dX0_booked_13 (by decide) ?_
    refine J.iconst (v := (1 : Int32)) dX0_booked_15 (by decide) ?_
    exact J.iret rfl dX0_booked_16 ⟨_, _, _, rfl, _, rfl, hw⟩
  refine uX0_35 rfl htr hT dX0_booked_5 (by omega) (Nat.le_of_ble_eq_true rfl) hw ?_
  clear hw
  intro r5 hw
  refine J.i2l dX0_booked_8 ?_
  refine J.nmL hw ?_
  clear hw
  intro y9 hw
  obtain ⟨f9, hk9, hn9, hw⟩ := hw
  refine JV.last0 dX0_booked_9 hn9 hk9 ?_
  refine J.nms hw ?_
  clear hw
  intro sh9 hw
  clear hT
  obtain ⟨hT, hw⟩ := hw
  refine J.goto 17 dX0_booked_10 (by decide) ?_
  refine J.iconst (v := (0 : Int32)) dX0_booked_17 (by decide) ?_
  exact J.iret rfl dX0_booked_18 ⟨_, _, _, rfl, _, rfl, hw⟩
abbrev MX0_can : jM := (yX0_can, cX0_can, 6, some .int, [(0, 19, 22, 24)])
theorem uX0_38 {G : jG} {l : Launch} {M : jM} {d c n pc : Nat} {lv : List (Nat × Value)} {rest : List Value} {post : Option Value → List jC → Prop} {xp : String → List jC → Prop} (hM : M.1.cls = RX0) (htr : l.stackTraces = false) {sh : List jH} {V : Nat → Nat → Int32} {R : Nat → Nat → Option Nat} {x : Nat} (hT : jReg shX1 sh x) {a1 : Int32} {a2 : Int32} {a3 : Int32} {Q : Int32 → Prop} (hd : decode M.2.1 pc = .ok (.invokevirtual 38, 3)) (hdd : 11 + 1 ≤ d) (hw8 : (rest.map fun v => v.category).sum ≤ 8) (hw : wX1_can x V a1 a2 a3 Q (fun _ => False)) (kk : ∀ r, Q r → J G l M d c n (pc + 3) lv (.int r :: rest) (mk sh V R) post xp) : J G l M d c n pc lv (.int a3 :: .int a2 :: .int a1 :: .ref x :: rest) (mk sh V R) post xp := by
  exact J.callV (c' := 0) (n' := 0) (As := [.int a1, .int a2, .int a3]) (hcw := by rw [hM]; exact lw_V q1744 q1745 q1746 q144 q1747) (mX1_can htr hT hw (Or.inl (fun _ h => h))) hd rfl ⟨0, _, _, mk_at (hT.at 0 rfl), rfl, rfl, fun _ => rfl⟩ ⟨rfl, by decide, by decide, by show _ = some 3; decide +kernel⟩ hw8 ⟨hdd, by decide⟩ jcc0 (fun r9 g9 h9 => by obtain ⟨rfl, r, rfl, h⟩ := h9; exact kk r h) (fun E9 g9 h9 => by obtain ⟨_, h⟩ := h9; exact h.elim)
theorem uxX0_38 {G : jG} {l : Launch} {M : jM} {d c n pc : Nat} {lv : List (Nat × Value)} {rest : List Value} {post : Option Value → List jC → Prop} {xp : String → List jC → Prop} (hM : M.1.cls = RX0) (htr : l.stackTraces = false) {sh : List jH} {V : Nat → Nat → Int32} {R : Nat → Nat → Option Nat} {x : Nat} (hT : jReg shX1 sh x) {a1 : Int32} {a2 : Int32} {a3 : Int32} {X : String → Prop} (hd : decode M.2.1 pc = .ok (.invokevirtual 38, 3)) (hdd : 11 + 1 ≤ d) (hw8 : (rest.map fun v => v.category).sum ≤ 8) (hw : wX1_can x V a1 a2 a3 (fun _ => False) X) (hb : (∀ E, ¬ X E) ∨ 1 ≤ c ∧ 6 ≤ n) (kx : ∀ E, X E → JX G l M d 0 0 pc lv E (mk sh V R) post xp) : J G l M d c n pc lv (.int a3 :: .int a2 :: .int a1 :: .ref x :: rest) (mk sh V R) post xp := by
  exact J.callV (c := 0) (n := 0) (c' := c) (n' := n) (As := [.int a1, .int a2, .int a3]) (hcw := by rw [hM]; exact lw_V q1744 q1745 q1746 q144 q1747) (mX1_can htr hT hw hb) hd rfl ⟨0, _, _, mk_at (hT.at 0 rfl), rfl, rfl, fun _ => rfl⟩ ⟨rfl, by decide, by decide, by show _ = some 3; decide +kernel⟩ hw8 ⟨hdd, by decide⟩ ⟨by omega, by omega⟩ (fun r9 g9 h9 => by obtain ⟨_, _, _, h⟩ := h9; exact h.elim) (fun E9 g9 h9 => by obtain ⟨rfl, h⟩ := h9; exact kx E9 h)
-- VisitingHoursLaw.can(LVisitingHours;III[J)I
def wX0_can (x : Nat) (sh : List jH) (V : Nat → Nat → Int32) (R : Nat → Nat → Option Nat) (c : Nat) (n : Nat) (a2 : Int32) (a3 : Int32) (a4 : Int32) (a5 : Nat) (Q : Int32 → List jH → (Nat → Nat → Int32) → (Nat → Nat → Option Nat) → Prop) : Prop :=
  ((wX1_can x V a2 a3 a4 (fun r7 => ((r7 = 0 → (∃ f18 : Nat → Int64, sh[a5]? = some (jF (.inl (3, 1, .inr (.inl f18)))) ∧ jn ≤ a5 ∧ (∀ sh18 : List jH, sh18 = sh.set a5 (jF (.inl (3, 1, .inr (.inl (vp_updL f18 0 (0 : Int64)))))) → (jReg shX1 sh18 x ∧ Q (0 : Int32) sh18 V R)))) ∧ (¬ r7 = 0 → (∃ f18 : Nat → Int64, sh[a5]? = some (jF (.inl (3, 1, .inr (.inl f18)))) ∧ jn ≤ a5 ∧ (∀ sh18 : List jH, sh18 = sh.set a5 (jF (.inl (3, 1, .inr (.inl (vp_updL f18 0 (1 : Int64)))))) → (jReg shX1 sh18 x ∧ Q (0 : Int32) sh18 V R)))))) (fun _ => False)) ∨ (wX1_can x V a2 a3 a4 (fun _ => False) (fun E9 => ((E9 = "java/lang/IndexOutOfBoundsException" ∧ Q (1 : Int32) sh V R))) ∧ 1 ≤ c ∧ 6 ≤ n))
theorem mX0_can {G : jG} {l : Launch} {d : Nat} (htr : l.stackTraces = false) (hdd : 12 ≤ d) {sh : List jH} {V : Nat → Nat → Int32} {R : Nat → Nat → Option Nat} {c : Nat} {n : Nat} {x : Nat} (hT : jReg shX1 sh x) {a2 : Int32} {a3 : Int32} {a4 : Int32} {a5 : Nat} {Q : Int32 → List jH → (Nat → Nat → Int32) → (Nat → Nat → Option Nat) → Prop} (hw : wX0_can x sh V R c n a2 a3 a4 a5 Q) : JM G l MX0_can d c n [.ref x, .int a2, .int a3, .int a4, .ref a5] (mk sh V R) (jSr Q) jNo := by
  refine JM.introH (h9 := _) (t9 := _) (by decide) rfl htr (Nat.le_of_ble_eq_true rfl) ?_
  show J G l MX0_can d c n 0 [(0, .ref x), (1, .int a2), (2, .int a3), (3, .int a4), (4, .ref a5)] [] (mk sh V R) _ _
  unfold wX0_can at hw
  refine J.aload 4 dX0_can_0 rfl ?_
  refine J.iconst (v := (0 : Int32)) dX0_can_2 (by decide) ?_
  refine J.aload_n 0 dX0_can_3 rfl ?_
  refine J.iload_n 1 dX0_can_4 rfl ?_
  refine J.iload_n 2 dX0_can_5 rfl ?_
  refine J.iload_n 3 dX0_can_6 rfl ?_
  rcases hw with hw | hw
  rotate_left
  · refine uxX0_38 rfl htr hT dX0_can_7 (by omega) (Nat.le_of_ble_eq_true rfl) hw.1 (Or.inr hw.2) ?_
    clear hw
    intro E9 hw
    obtain ⟨rfl, hw⟩ := hw
    refine JX.catch2 (nm := "java/lang/IndexOutOfBoundsException") (tableOf []) (jent (0, 19, 22, 24)) (tableOf []) rfl (fun _ h => absurd h List.not_mem_nil) (by decide) (by decide) q1637 nw1670 dX0_can_22 (by decide) ?_
    refine J.iconst (v := (1 : Int32)) dX0_can_24 (by decide) ?_
    exact J.iret rfl dX0_can_25 ⟨_, _, _, rfl, _, rfl, hw⟩
  refine uX0_38 rfl htr hT dX0_can_7 (by omega) (Nat.le_of_ble_eq_true rfl) hw ?_
  clear hw
  intro r7 hw
  refine J.if_eq 17 dX0_can_10 (by decide) ⟨fun c10 => ?_, fun c10 => ?_⟩
  · obtain ⟨hw, -⟩ := hw
    specialize hw c10
    refine J.lconst (v := (0 : Int64)) dX0_can_17 (by decide) ?_
    obtain ⟨f18, hk18, hn18, hw⟩ := hw
    refine JV.last0 dX0_can_18 hn18 hk18 ?_
    refine J.nms hw ?_
    clear hw
    intro sh18 hw
    clear hT
    obtain ⟨hT, hw⟩ := hw
    refine J.goto 26 dX0_can_19 (by decide) ?_
    refine J.iconst (v := (0 : Int32)) dX0_can_26 (by decide) ?_
    exact J.iret rfl dX0_can_27 ⟨_, _, _, rfl, _, rfl, hw⟩
  · obtain ⟨-, hw⟩ := hw
    specialize hw c10
    refine J.lconst (v := (1 : Int64)) dX0_can_13 (by decide) ?_
    refine J.goto 18 dX0_can_14 (by decide) ?_
    obtain ⟨f18, hk18, hn18, hw⟩ := hw
    refine JV.last0 dX0_can_18 hn18 hk18 ?_
    refine J.nms hw ?_
    clear hw
    intro sh18 hw
    clear hT
    obtain ⟨hT, hw⟩ := hw
    refine J.goto 26 dX0_can_19 (by decide) ?_
    refine J.iconst (v := (0 : Int32)) dX0_can_26 (by decide) ?_
    exact J.iret rfl dX0_can_27 ⟨_, _, _, rfl, _, rfl, hw⟩
abbrev MX0_lets : jM := (yX0_lets, cX0_lets, 6, some .int, [(0, 19, 22, 24)])
theorem uX0_42 {G : jG} {l : Launch} {M : jM} {d c n pc : Nat} {lv : List (Nat × Value)} {rest : List Value} {post : Option Value → List jC → Prop} {xp : String → List jC → Prop} (hM : M.1.cls = RX0) (htr : l.stackTraces = false) {sh : List jH} {V : Nat → Nat → Int32} {R : Nat → Nat → Option Nat} {x : Nat} (hT : jReg shX1 sh x) {a1 : Int32} {a2 : Int32} {a3 : Int32} {Q : Int32 → (Nat → Nat → Int32) → Prop} (hd : decode M.2.1 pc = .ok (.invokevirtual 42, 3)) (hdd : 42 + 1 ≤ d) (hw8 : (rest.map fun v => v.category).sum ≤ 8) (hw : wX1_lets x sh R V a1 a2 a3 Q (fun _ _ => False)) (kk : ∀ r V', Q r V' → J G l M d c n (pc + 3) lv (.int r :: rest) (mk sh V' R) post xp) : J G l M d c n pc lv (.int a3 :: .int a2 :: .int a1 :: .ref x :: rest) (mk sh V R) post xp := by
  exact J.callV (c' := 0) (n' := 0) (As := [.int a1, .int a2, .int a3]) (hcw := by rw [hM]; exact lw_V q1755 q1756 q1757 q144 q1758) (mX1_lets htr (Nat.le_refl _) hT hw (Or.inl (fun _ _ h => h))) hd rfl ⟨0, _, _, mk_at (hT.at 0 rfl), rfl, rfl, fun _ => rfl⟩ ⟨rfl, by decide, by decide, by show _ = some 3; decide +kernel⟩ hw8 ⟨hdd, by decide⟩ jcc0 (fun r9 g9 h9 => by obtain ⟨V9, rfl, r, rfl, h⟩ := h9; exact kk r V9 h) (fun E9 g9 h9 => by obtain ⟨_, _, h⟩ := h9; exact h.elim)
theorem uxX0_42 {G : jG} {l : Launch} {M : jM} {d c n pc : Nat} {lv : List (Nat × Value)} {rest : List Value} {post : Option Value → List jC → Prop} {xp : String → List jC → Prop} (hM : M.1.cls = RX0) (htr : l.stackTraces = false) {sh : List jH} {V : Nat → Nat → Int32} {R : Nat → Nat → Option Nat} {x : Nat} (hT : jReg shX1 sh x) {a1 : Int32} {a2 : Int32} {a3 : Int32} {X : String → (Nat → Nat → Int32) → Prop} (hd : decode M.2.1 pc = .ok (.invokevirtual 42, 3)) (hdd : 42 + 1 ≤ d) (hw8 : (rest.map fun v => v.category).sum ≤ 8) (hw : wX1_lets x sh R V a1 a2 a3 (fun _ _ => False) X) (hb : (∀ E V', ¬ X E V') ∨ 1 ≤ c ∧ 6 ≤ n) (kx : ∀ E V', X E V' → JX G l M d 0 0 pc lv E (mk sh V' R) post xp) : J G l M d c n pc lv (.int a3 :: .int a2 :: .int a1 :: .ref x :: rest) (mk sh V R) post xp := by
  exact J.callV (c := 0) (n := 0) (c' := c) (n' := n) (As := [.int a1, .int a2, .int a3]) (hcw := by rw [hM]; exact lw_V q1755 q1756 q1757 q144 q1758) (mX1_lets htr (Nat.le_refl _) hT hw hb) hd rfl ⟨0, _, _, mk_at (hT.at 0 rfl), rfl, rfl, fun _ => rfl⟩ ⟨rfl, by decide, by decide, by show _ = some 3; decide +kernel⟩ hw8 ⟨hdd, by decide⟩ ⟨by omega, by omega⟩ (fun r9 g9 h9 => by obtain ⟨_, _, _, _, h⟩ := h9; exact h.elim) (fun E9 g9 h9 => by obtain ⟨V9, rfl, h⟩ := h9; exact kx E9 V9 h)
-- VisitingHoursLaw.lets(LVisitingHours;III[J)I
def wX0_lets (x : Nat) (sh : List jH) (V : Nat → Nat → Int32) (R : Nat → Nat → Option Nat) (c : Nat) (n : Nat) (a2 : Int32) (a3 : Int32) (a4 : Int32) (a5 : Nat) (Q : Int32 → List jH → (Nat → Nat → Int32) → (Nat → Nat → Option Nat) → Prop) : Prop :=
  ((wX1_lets x sh R V a2 a3 a4 (fun r7 V7 => ((r7 = 0 → (∃ f18 : Nat → Int64, sh[a5]? = some (jF (.inl (3, 1, .inr (.inl f18)))) ∧ jn ≤ a5 ∧ (∀ sh18 : List jH, sh18 = sh.set a5 (jF (.inl (3, 1, .inr (.inl (vp_updL f18 0 (0 : Int64)))))) → (jReg shX1 sh18 x ∧ Q (0 : Int32) sh18 V7 R)))) ∧ (¬ r7 = 0 → (∃ f18 : Nat → Int64, sh[a5]? = some (jF (.inl (3, 1, .inr (.inl f18)))) ∧ jn ≤ a5 ∧ (∀ sh18 : List jH, sh18 = sh.set a5 (jF (.inl (3, 1, .inr (.inl (vp_updL f18 0 (1 : Int64)))))) → (jReg shX1 sh18 x ∧ Q (0 : Int32) sh18 V7 R)))))) (fun _ _ => False)) ∨ (wX1_lets x sh R V a2 a3 a4 (fun _ _ => False) (fun E9 Vx => ((E9 = "java/lang/IndexOutOfBoundsException" ∧ Q (1 : Int32) sh Vx R))) ∧ 1 ≤ c ∧ 6 ≤ n))
theorem mX0_lets {G : jG} {l : Launch} {d : Nat} (htr : l.stackTraces = false) (hdd : 43 ≤ d) {sh : List jH} {V : Nat → Nat → Int32} {R : Nat → Nat → Option Nat} {c : Nat} {n : Nat} {x : Nat} (hT : jReg shX1 sh x) {a2 : Int32} {a3 : Int32} {a4 : Int32} {a5 : Nat} {Q : Int32 → List jH → (Nat → Nat → Int32) → (Nat → Nat → Option Nat) → Prop} (hw : wX0_lets x sh V R c n a2 a3 a4 a5 Q) : JM G l MX0_lets d c n [.ref x, .int a2, .int a3, .int a4, .ref a5] (mk sh V R) (jSr Q) jNo := by
  refine JM.introH (h9 := _) (t9 := _) (by decide) rfl htr (Nat.le_of_ble_eq_true rfl) ?_
  show J G l MX0_lets d c n 0 [(0, .ref x), (1, .int a2), (2, .int a3), (3, .int a4), (4, .ref a5)] [] (mk sh V R) _ _
  unfold wX0_lets at hw
  refine J.aload 4 dX0_lets_0 rfl ?_
  refine J.iconst (v := (0 : Int32)) dX0_lets_2 (by decide) ?_
  refine J.aload_n 0 dX0_lets_3 rfl ?_
  refine J.iload_n 1 dX0_lets_4 rfl ?_
  refine J.iload_n 2 dX0_lets_5 rfl ?_
  refine J.iload_n 3 dX0_lets_6 rfl ?_
  rcases hw with hw | hw
  rotate_left
  · refine uxX0_42 rfl htr hT dX0_lets_7 (by omega) (Nat.le_of_ble_eq_true rfl) hw.1 (Or.inr hw.2) ?_
    clear hw
    intro E9 Vx hw
    obtain ⟨rfl, hw⟩ := hw
    refine JX.catch2 (nm := "java/lang/IndexOutOfBoundsException") (tableOf []) (jent (0, 19, 22, 24)) (tableOf []) rfl (fun _ h => absurd h List.not_mem_nil) (by decide) (by decide) q1637 nw1670 dX0_lets_22 (by decide) ?_
    refine J.iconst (v := (1 : Int32)) dX0_lets_24 (by decide) ?_
    exact J.iret rfl dX0_lets_25 ⟨_, _, _, rfl, _, rfl, hw⟩
  refine uX0_42 rfl htr hT dX0_lets_7 (by omega) (Nat.le_of_ble_eq_true rfl) hw ?_
  clear hw
  intro r7 V7 hw
  refine J.if_eq 17 dX0_lets_10 (by decide) ⟨fun c10 => ?_, fun c10 => ?_⟩
  · obtain ⟨hw, -⟩ := hw
    specialize hw c10
    refine J.lconst (v := (0 : Int64)) dX0_lets_17 (by decide) ?_
    obtain ⟨f18, hk18, hn18, hw⟩ := hw
    refine JV.last0 dX0_lets_18 hn18 hk18 ?_
    refine J.nms hw ?_
    clear hw
    intro sh18 hw
    clear hT
    obtain ⟨hT, hw⟩ := hw
    refine J.goto 26 dX0_lets_19 (by decide) ?_
    refine J.iconst (v := (0 : Int32)) dX0_lets_26 (by decide) ?_
    exact J.iret rfl dX0_lets_27 ⟨_, _, _, rfl, _, rfl, hw⟩
  · obtain ⟨-, hw⟩ := hw
    specialize hw c10
    refine J.lconst (v := (1 : Int64)) dX0_lets_13 (by decide) ?_
    refine J.goto 18 dX0_lets_14 (by decide) ?_
    obtain ⟨f18, hk18, hn18, hw⟩ := hw
    refine JV.last0 dX0_lets_18 hn18 hk18 ?_
    refine J.nms hw ?_
    clear hw
    intro sh18 hw
    clear hT
    obtain ⟨hT, hw⟩ := hw
    refine J.goto 26 dX0_lets_19 (by decide) ?_
    refine J.iconst (v := (0 : Int32)) dX0_lets_26 (by decide) ?_
    exact J.iret rfl dX0_lets_27 ⟨_, _, _, rfl, _, rfl, hw⟩
abbrev MX0_joy : jM := (yX0_joy, cX0_joy, 6, some .int, [(0, 12, 15, 24)])
theorem uX0_45 {G : jG} {l : Launch} {M : jM} {d c n pc : Nat} {lv : List (Nat × Value)} {rest : List Value} {post : Option Value → List jC → Prop} {xp : String → List jC → Prop} (hM : M.1.cls = RX0) (htr : l.stackTraces = false) {sh : List jH} {V : Nat → Nat → Int32} {R : Nat → Nat → Option Nat} {x : Nat} (hT : jReg shX1 sh x) {a1 : Int32} {a2 : Int32} {a3 : Int32} {Q : Int32 → (Nat → Nat → Int32) → Prop} (hd : decode M.2.1 pc = .ok (.invokevirtual 45, 3)) (hdd : 42 + 1 ≤ d) (hw8 : (rest.map fun v => v.category).sum ≤ 8) (hw : wX1_joy x sh R V a1 a2 a3 Q (fun _ _ => False)) (kk : ∀ r V', Q r V' → J G l M d c n (pc + 3) lv (.int r :: rest) (mk sh V' R) post xp) : J G l M d c n pc lv (.int a3 :: .int a2 :: .int a1 :: .ref x :: rest) (mk sh V R) post xp := by
  exact J.callV (c' := 0) (n' := 0) (As := [.int a1, .int a2, .int a3]) (hcw := by rw [hM]; exact lw_V q1762 q1763 q1764 q144 q1765) (mX1_joy htr (Nat.le_refl _) hT hw (Or.inl (fun _ _ h => h))) hd rfl ⟨0, _, _, mk_at (hT.at 0 rfl), rfl, rfl, fun _ => rfl⟩ ⟨rfl, by decide, by decide, by show _ = some 3; decide +kernel⟩ hw8 ⟨hdd, by decide⟩ jcc0 (fun r9 g9 h9 => by obtain ⟨V9, rfl, r, rfl, h⟩ := h9; exact kk r V9 h) (fun E9 g9 h9 => by obtain ⟨_, _, h⟩ := h9; exact h.elim)
theorem uxX0_45 {G : jG} {l : Launch} {M : jM} {d c n pc : Nat} {lv : List (Nat × Value)} {rest : List Value} {post : Option Value → List jC → Prop} {xp : String → List jC → Prop} (hM : M.1.cls = RX0) (htr : l.stackTraces = false) {sh : List jH} {V : Nat → Nat → Int32} {R : Nat → Nat → Option Nat} {x : Nat} (hT : jReg shX1 sh x) {a1 : Int32} {a2 : Int32} {a3 : Int32} {X : String → (Nat → Nat → Int32) → Prop} (hd : decode M.2.1 pc = .ok (.invokevirtual 45, 3)) (hdd : 42 + 1 ≤ d) (hw8 : (rest.map fun v => v.category).sum ≤ 8) (hw : wX1_joy x sh R V a1 a2 a3 (fun _ _ => False) X) (hb : (∀ E V', ¬ X E V') ∨ 1 ≤ c ∧ 6 ≤ n) (kx : ∀ E V', X E V' → JX G l M d 0 0 pc lv E (mk sh V' R) post xp) : J G l M d c n pc lv (.int a3 :: .int a2 :: .int a1 :: .ref x :: rest) (mk sh V R) post xp := by
  exact J.callV (c := 0) (n := 0) (c' := c) (n' := n) (As := [.int a1, .int a2, .int a3]) (hcw := by rw [hM]; exact lw_V q1762 q1763 q1764 q144 q1765) (mX1_joy htr (Nat.le_refl _) hT hw hb) hd rfl ⟨0, _, _, mk_at (hT.at 0 rfl), rfl, rfl, fun _ => rfl⟩ ⟨rfl, by decide, by decide, by show _ = some 3; decide +kernel⟩ hw8 ⟨hdd, by decide⟩ ⟨by omega, by omega⟩ (fun r9 g9 h9 => by obtain ⟨_, _, _, _, h⟩ := h9; exact h.elim) (fun E9 g9 h9 => by obtain ⟨V9, rfl, h⟩ := h9; exact kx E9 V9 h)
-- VisitingHoursLaw.joy(LVisitingHours;III[J)I
def wX0_joy (x : Nat) (sh : List jH) (V : Nat → Nat → Int32) (R : Nat → Nat → Option Nat) (c : Nat) (n : Nat) (a2 : Int32) (a3 : Int32) (a4 : Int32) (a5 : Nat) (Q : Int32 → List jH → (Nat → Nat → Int32) → (Nat → Nat → Option Nat) → Prop) : Prop :=
  ((wX1_joy x sh R V a2 a3 a4 (fun r7 V7 => (∀ y11 : Int64, y11 = r7.toInt64 → (∃ f11 : Nat → Int64, sh[a5]? = some (jF (.inl (3, 1, .inr (.inl f11)))) ∧ jn ≤ a5 ∧ (∀ sh11 : List jH, sh11 = sh.set a5 (jF (.inl (3, 1, .inr (.inl (vp_updL f11 0 y11))))) → (jReg shX1 sh11 x ∧ Q (0 : Int32) sh11 V7 R))))) (fun _ _ => False)) ∨ (wX1_joy x sh R V a2 a3 a4 (fun _ _ => False) (fun E9 Vx => ((E9 = "java/lang/IndexOutOfBoundsException" ∧ Q (1 : Int32) sh Vx R))) ∧ 1 ≤ c ∧ 6 ≤ n))
theorem mX0_joy {G : jG} {l : Launch} {d : Nat} (htr : l.stackTraces = false) (hdd : 43 ≤ d) {sh : List jH} {V : Nat → Nat → Int32} {R : Nat → Nat → Option Nat} {c : Nat} {n : Nat} {x : Nat} (hT : jReg shX1 sh x) {a2 : Int32} {a3 : Int32} {a4 : Int32} {a5 : Nat} {Q : Int32 → List jH → (Nat → Nat → Int32) → (Nat → Nat → Option Nat) → Prop} (hw : wX0_joy x sh V R c n a2 a3 a4 a5 Q) : JM G l MX0_joy d c n [.ref x, .int a2, .int a3, .int a4, .ref a5] (mk sh V R) (jSr Q) jNo := by
  refine JM.introH (h9 := _) (t9 := _) (by decide) rfl htr (Nat.le_of_ble_eq_true rfl) ?_
  show J G l MX0_joy d c n 0 [(0, .ref x), (1, .int a2), (2, .int a3), (3, .int a4), (4, .ref a5)] [] (mk sh V R) _ _
  unfold wX0_joy at hw
  refine J.aload 4 dX0_joy_0 rfl ?_
  refine J.iconst (v := (0 : Int32)) dX0_joy_2 (by decide) ?_
  refine J.aload_n 0 dX0_joy_3 rfl ?_
  refine J.iload_n 1 dX0_joy_4 rfl ?_
  refine J.iload_n 2 dX0_joy_5 rfl ?_
  refine J.iload_n 3 dX0_joy_6 rfl ?_
  rcases hw with hw | hw
  rotate_left
  · refine uxX0_45 rfl htr hT dX0_joy_7 (by omega) (Nat.le_of_ble_eq_true rfl) hw.1 (Or.inr hw.2) ?_
    clear hw
    intro E9 Vx hw
    obtain ⟨rfl, hw⟩ := hw
    refine JX.catch2 (nm := "java/lang/IndexOutOfBoundsException") (tableOf []) (jent (0, 12, 15, 24)) (tableOf []) rfl (fun _ h => absurd h List.not_mem_nil) (by decide) (by decide) q1637 nw1670 dX0_joy_15 (by decide) ?_
    refine J.iconst (v := (1 : Int32)) dX0_joy_17 (by decide) ?_
    exact J.iret rfl dX0_joy_18 ⟨_, _, _, rfl, _, rfl, hw⟩
  refine uX0_45 rfl htr hT dX0_joy_7 (by omega) (Nat.le_of_ble_eq_true rfl) hw ?_
  clear hw
  intro r7 V7 hw
  refine J.i2l dX0_joy_10 ?_
  refine J.nmL hw ?_
  clear hw
  intro y11 hw
  obtain ⟨f11, hk11, hn11, hw⟩ := hw
  refine JV.last0 dX0_joy_11 hn11 hk11 ?_
  refine J.nms hw ?_
  clear hw
  intro sh11 hw
  clear hT
  obtain ⟨hT, hw⟩ := hw
  refine J.goto 19 dX0_joy_12 (by decide) ?_
  refine J.iconst (v := (0 : Int32)) dX0_joy_19 (by decide) ?_
  exact J.iret rfl dX0_joy_20 ⟨_, _, _, rfl, _, rfl, hw⟩
abbrev MX0_book : jM := (yX0_book, cX0_book, 6, some .int, [(0, 12, 15, 24), (0, 12, 19, 52)])
theorem uX0_49 {G : jG} {l : Launch} {M : jM} {d c n pc : Nat} {lv : List (Nat × Value)} {rest : List Value} {post : Option Value → List jC → Prop} {xp : String → List jC → Prop} (hM : M.1.cls = RX0) (htr : l.stackTraces = false) {sh : List jH} {V : Nat → Nat → Int32} {R : Nat → Nat → Option Nat} {x : Nat} (hT : jReg shX1 sh x) {a1 : Int32} {a2 : Int32} {a3 : Int32} {c1 n1 cq nq : Nat} {Q : Int32 → List jH → (Nat → Nat → Int32) → (Nat → Nat → Option Nat) → Prop} {X : String → List jH → (Nat → Nat → Int32) → (Nat → Nat → Option Nat) → Prop} (hd : decode M.2.1 pc = .ok (.invokevirtual 49, 3)) (hdd : 11 + 1 ≤ d) (hw8 : (rest.map fun v => v.category).sum ≤ 8) (hw : wX1_book x sh V R c1 n1 a1 a2 a3 Q X) (hcc : c1 + c ≤ cq ∧ n1 + n ≤ nq) (kk : ∀ r sh' V' R', Q r sh' V' R' → J G l M d c n (pc + 3) lv (.int r :: rest) (mk sh' V' R') post xp) (kx : ∀ E sh' V' R', X E sh' V' R' → JX G l M d c n pc lv E (mk sh' V' R') post xp) : J G l M d cq nq pc lv (.int a3 :: .int a2 :: .int a1 :: .ref x :: rest) (mk sh V R) post xp := by
  exact J.callV (As := [.int a1, .int a2, .int a3]) (hcw := by rw [hM]; exact lw_V q1770 q1771 q1772 q144 q1773) (mX1_book htr (Nat.le_refl _) hT hw) hd rfl ⟨0, _, _, mk_at (hT.at 0 rfl), rfl, rfl, fun _ => rfl⟩ ⟨rfl, by decide, by decide, by show _ = some 3; decide +kernel⟩ hw8 ⟨hdd, by decide⟩ hcc (fun r9 g9 h9 => by obtain ⟨s9, V9, R9, rfl, r, rfl, h⟩ := h9; exact kk r s9 V9 R9 h) (fun E9 g9 h9 => by obtain ⟨s9, V9, R9, rfl, h⟩ := h9; exact kx E9 s9 V9 R9 h)
-- VisitingHoursLaw.book(LVisitingHours;III[J)I
def wX0_book (x : Nat) (sh : List jH) (V : Nat → Nat → Int32) (R : Nat → Nat → Option Nat) (c : Nat) (n : Nat) (a2 : Int32) (a3 : Int32) (a4 : Int32) (a5 : Nat) (Q : Int32 → List jH → (Nat → Nat → Int32) → (Nat → Nat → Option Nat) → Prop) : Prop :=
  (∃ c17 n17 c27 n27 : Nat, c17 + c27 ≤ c ∧ n17 + n27 ≤ n ∧ (wX1_book x sh V R c17 n17 a2 a3 a4 (fun r7 sh7 V7 R7 => (jReg shX1 sh7 x ∧ (∀ y11 : Int64, y11 = r7.toInt64 → (∃ f11 : Nat → Int64, sh7[a5]? = some (jF (.inl (3, 1, .inr (.inl f11)))) ∧ jn ≤ a5 ∧ (∀ sh11 : List jH, sh11 = sh7.set a5 (jF (.inl (3, 1, .inr (.inl (vp_updL f11 0 y11))))) → (jReg shX1 sh11 x ∧ Q (0 : Int32) sh11 V7 R7)))))) (fun E9 shx Vx Rx => (jReg shX1 shx x ∧ ((E9 = "java/lang/IndexOutOfBoundsException" ∧ Q (1 : Int32) shx Vx Rx) ∨ (E9 = "java/lang/IllegalStateException" ∧ Q (2 : Int32) shx Vx Rx))))))
theorem mX0_book {G : jG} {l : Launch} {d : Nat} (htr : l.stackTraces = false) (hdd : 12 ≤ d) {sh : List jH} {V : Nat → Nat → Int32} {R : Nat → Nat → Option Nat} {c : Nat} {n : Nat} {x : Nat} (hT : jReg shX1 sh x) {a2 : Int32} {a3 : Int32} {a4 : Int32} {a5 : Nat} {Q : Int32 → List jH → (Nat → Nat → Int32) → (Nat → Nat → Option Nat) → Prop} (hw : wX0_book x sh V R c n a2 a3 a4 a5 Q) : JM G l MX0_book d c n [.ref x, .int a2, .int a3, .int a4, .ref a5] (mk sh V R) (jSr Q) jNo := by
  refine JM.introH (h9 := _) (t9 := _) (by decide) rfl htr (Nat.le_of_ble_eq_true rfl) ?_
  show J G l MX0_book d c n 0 [(0, .ref x), (1, .int a2), (2, .int a3), (3, .int a4), (4, .ref a5)] [] (mk sh V R) _ _
  unfold wX0_book at hw
  refine J.aload 4 dX0_book_0 rfl ?_
  refine J.iconst (v := (0 : Int32)) dX0_book_2 (by decide) ?_
  refine J.aload_n 0 dX0_book_3 rfl ?_
  refine J.iload_n 1 dX0_book_4 rfl ?_
  refine J.iload_n 2 dX0_book_5 rfl ?_
  refine J.iload_n 3 dX0_book_6 rfl ?_
  obtain ⟨c17, n17, c27, n27, hc7, hd7, hw⟩ := hw
  refine uX0_49 rfl htr hT dX0_book_7 (by omega) (Nat.le_of_ble_eq_true rfl) hw ⟨hc7, hd7⟩ ?_ ?_
  rotate_left
  · clear hw
    intro E9 shx Vx Rx hw
    clear hT
    obtain ⟨hT, hw⟩ := hw
    rcases hw with ⟨rfl, hw⟩ | ⟨rfl, hw⟩
    · refine JX.catch2 (nm := "java/lang/IndexOutOfBoundsException") (tableOf []) (jent (0, 12, 15, 24)) (tableOf [(0, 12, 19, 52)]) rfl (fun _ h => absurd h List.not_mem_nil) (by decide) (by decide) q1637 nw1670 dX0_book_15 (by decide) ?_
      refine J.iconst (v := (1 : Int32)) dX0_book_17 (by decide) ?_
      exact J.iret rfl dX0_book_18 ⟨_, _, _, rfl, _, rfl, hw⟩
    · refine JX.catch2 (nm := "java/lang/IllegalStateException") (tableOf [(0, 12, 15, 24)]) (jent (0, 12, 19, 52)) (tableOf []) rfl (List.forall_mem_cons.mpr ⟨Or.inr ⟨by decide, "java/lang/IndexOutOfBoundsException", q1637, List.mem_of_getElem? (i := 3) rfl⟩, (fun _ h => absurd h List.not_mem_nil)⟩) (by decide) (by decide) q1769 nw1779 dX0_book_19 (by decide) ?_
      refine J.iconst (v := (2 : Int32)) dX0_book_21 (by decide) ?_
      exact J.iret rfl dX0_book_22 ⟨_, _, _, rfl, _, rfl, hw⟩
  clear hw
  intro r7 sh7 V7 R7 hw
  clear hT
  obtain ⟨hT, hw⟩ := hw
  refine J.i2l dX0_book_10 ?_
  refine J.nmL hw ?_
  clear hw
  intro y11 hw
  obtain ⟨f11, hk11, hn11, hw⟩ := hw
  refine JV.last0 dX0_book_11 hn11 hk11 ?_
  refine J.nms hw ?_
  clear hw
  intro sh11 hw
  clear hT
  obtain ⟨hT, hw⟩ := hw
  refine J.goto 23 dX0_book_12 (by decide) ?_
  refine J.iconst (v := (0 : Int32)) dX0_book_23 (by decide) ?_
  exact J.iret rfl dX0_book_24 ⟨_, _, _, rfl, _, rfl, hw⟩
abbrev MX0_strike : jM := (yX0_strike, cX0_strike, 5, some .int, [(0, 10, 13, 24), (0, 10, 17, 52)])
theorem uX0_54 {G : jG} {l : Launch} {M : jM} {d c n pc : Nat} {lv : List (Nat × Value)} {rest : List Value} {post : Option Value → List jC → Prop} {xp : String → List jC → Prop} (hM : M.1.cls = RX0) (htr : l.stackTraces = false) {sh : List jH} {V : Nat → Nat → Int32} {R : Nat → Nat → Option Nat} {x : Nat} (hT : jReg shX1 sh x) {a1 : Int32} {a2 : Int32} {c1 n1 cq nq : Nat} {Q : Int32 → List jH → (Nat → Nat → Int32) → (Nat → Nat → Option Nat) → Prop} {X : String → List jH → (Nat → Nat → Int32) → (Nat → Nat → Option Nat) → Prop} (hd : decode M.2.1 pc = .ok (.invokevirtual 54, 3)) (hdd : 10 + 1 ≤ d) (hw8 : (rest.map fun v => v.category).sum ≤ 8) (hw : wX1_strike x sh V R c1 n1 a1 a2 Q X) (hcc : c1 + c ≤ cq ∧ n1 + n ≤ nq) (kk : ∀ r sh' V' R', Q r sh' V' R' → J G l M d c n (pc + 3) lv (.int r :: rest) (mk sh' V' R') post xp) (kx : ∀ E sh' V' R', X E sh' V' R' → JX G l M d c n pc lv E (mk sh' V' R') post xp) : J G l M d cq nq pc lv (.int a2 :: .int a1 :: .ref x :: rest) (mk sh V R) post xp := by
  exact J.callV (As := [.int a1, .int a2]) (hcw := by rw [hM]; exact lw_V q1799 q1800 q1801 q144 q1802) (mX1_strike htr (Nat.le_refl _) hT hw) hd rfl ⟨0, _, _, mk_at (hT.at 0 rfl), rfl, rfl, fun _ => rfl⟩ ⟨rfl, by decide, by decide, by show _ = some 2; decide +kernel⟩ hw8 ⟨hdd, by decide⟩ hcc (fun r9 g9 h9 => by obtain ⟨s9, V9, R9, rfl, r, rfl, h⟩ := h9; exact kk r s9 V9 R9 h) (fun E9 g9 h9 => by obtain ⟨s9, V9, R9, rfl, h⟩ := h9; exact kx E9 s9 V9 R9 h)
-- VisitingHoursLaw.strike(LVisitingHours;II[J)I
def wX0_strike (x : Nat) (sh : List jH) (V : Nat → Nat → Int32) (R : Nat → Nat → Option Nat) (c : Nat) (n : Nat) (a2 : Int32) (a3 : Int32) (a4 : Nat) (Q : Int32 → List jH → (Nat → Nat → Int32) → (Nat → Nat → Option Nat) → Prop) : Prop :=
  (∃ c15 n15 c25 n25 : Nat, c15 + c25 ≤ c ∧ n15 + n25 ≤ n ∧ (wX1_strike x sh V R c15 n15 a2 a3 (fun r5 sh5 V5 R5 => (jReg shX1 sh5 x ∧ (∀ y9 : Int64, y9 = r5.toInt64 → (∃ f9 : Nat → Int64, sh5[a4]? = some (jF (.inl (3, 1, .inr (.inl f9)))) ∧ jn ≤ a4 ∧ (∀ sh9 : List jH, sh9 = sh5.set a4 (jF (.inl (3, 1, .inr (.inl (vp_updL f9 0 y9))))) → (jReg shX1 sh9 x ∧ Q (0 : Int32) sh9 V5 R5)))))) (fun E9 shx Vx Rx => (jReg shX1 shx x ∧ ((E9 = "java/lang/IndexOutOfBoundsException" ∧ Q (1 : Int32) shx Vx Rx) ∨ (E9 = "java/lang/IllegalStateException" ∧ Q (2 : Int32) shx Vx Rx))))))
theorem mX0_strike {G : jG} {l : Launch} {d : Nat} (htr : l.stackTraces = false) (hdd : 11 ≤ d) {sh : List jH} {V : Nat → Nat → Int32} {R : Nat → Nat → Option Nat} {c : Nat} {n : Nat} {x : Nat} (hT : jReg shX1 sh x) {a2 : Int32} {a3 : Int32} {a4 : Nat} {Q : Int32 → List jH → (Nat → Nat → Int32) → (Nat → Nat → Option Nat) → Prop} (hw : wX0_strike x sh V R c n a2 a3 a4 Q) : JM G l MX0_strike d c n [.ref x, .int a2, .int a3, .ref a4] (mk sh V R) (jSr Q) jNo := by
  refine JM.introH (h9 := _) (t9 := _) (by decide) rfl htr (Nat.le_of_ble_eq_true rfl) ?_
  show J G l MX0_strike d c n 0 [(0, .ref x), (1, .int a2), (2, .int a3), (3, .ref a4)] [] (mk sh V R) _ _
  unfold wX0_strike at hw
  refine J.aload_n 3 dX0_strike_0 rfl ?_
  refine J.iconst (v := (0 : Int32)) dX0_strike_1 (by decide) ?_
  refine J.aload_n 0 dX0_strike_2 rfl ?_
  refine J.iload_n 1 dX0_strike_3 rfl ?_
  refine J.iload_n 2 dX0_strike_4 rfl ?_
  obtain ⟨c15, n15, c25, n25, hc5, hd5, hw⟩ := hw
  refine uX0_54 rfl htr hT dX0_strike_5 (by omega) (Nat.le_of_ble_eq_true rfl) hw ⟨hc5, hd5⟩ ?_ ?_
  rotate_left
  · clear hw
    intro E9 shx Vx Rx hw
    clear hT
    obtain ⟨hT, hw⟩ := hw
    rcases hw with ⟨rfl, hw⟩ | ⟨rfl, hw⟩
    · refine JX.catch2 (nm := "java/lang/IndexOutOfBoundsException") (tableOf []) (jent (0, 10, 13, 24)) (tableOf [(0, 10, 17, 52)]) rfl (fun _ h => absurd h List.not_mem_nil) (by decide) (by decide) q1637 nw1670 dX0_strike_13 (by decide) ?_
      refine J.iconst (v := (1 : Int32)) dX0_strike_15 (by decide) ?_
      exact J.iret rfl dX0_strike_16 ⟨_, _, _, rfl, _, rfl, hw⟩
    · refine JX.catch2 (nm := "java/lang/IllegalStateException") (tableOf [(0, 10, 13, 24)]) (jent (0, 10, 17, 52)) (tableOf []) rfl (List.forall_mem_cons.mpr ⟨Or.inr ⟨by decide, "java/lang/IndexOutOfBoundsException", q1637, List.mem_of_getElem? (i := 3) rfl⟩, (fun _ h => absurd h List.not_mem_nil)⟩) (by decide) (by decide) q1769 nw1779 dX0_strike_17 (by decide) ?_
      refine J.iconst (v := (2 : Int32)) dX0_strike_19 (by decide) ?_
      exact J.iret rfl dX0_strike_20 ⟨_, _, _, rfl, _, rfl, hw⟩
  clear hw
  intro r5 sh5 V5 R5 hw
  clear hT
  obtain ⟨hT, hw⟩ := hw
  refine J.i2l dX0_strike_8 ?_
  refine J.nmL hw ?_
  clear hw
  intro y9 hw
  obtain ⟨f9, hk9, hn9, hw⟩ := hw
  refine JV.last0 dX0_strike_9 hn9 hk9 ?_
  refine J.nms hw ?_
  clear hw
  intro sh9 hw
  clear hT
  obtain ⟨hT, hw⟩ := hw
  refine J.goto 21 dX0_strike_10 (by decide) ?_
  refine J.iconst (v := (0 : Int32)) dX0_strike_21 (by decide) ?_
  exact J.iret rfl dX0_strike_22 ⟨_, _, _, rfl, _, rfl, hw⟩
abbrev MX0_change : jM := (yX0_change, cX0_change, 6, some .int, [(0, 12, 15, 24), (0, 12, 19, 13)])
theorem uX0_57 {G : jG} {l : Launch} {M : jM} {d c n pc : Nat} {lv : List (Nat × Value)} {rest : List Value} {post : Option Value → List jC → Prop} {xp : String → List jC → Prop} (hM : M.1.cls = RX0) (htr : l.stackTraces = false) {sh : List jH} {V : Nat → Nat → Int32} {R : Nat → Nat → Option Nat} {x : Nat} (hT : jReg shX1 sh x) {a1 : Int32} {a2 : Int32} {a3 : Int32} {c1 n1 cq nq : Nat} {Q : Int32 → List jH → (Nat → Nat → Int32) → (Nat → Nat → Option Nat) → Prop} {X : String → List jH → (Nat → Nat → Int32) → (Nat → Nat → Option Nat) → Prop} (hd : decode M.2.1 pc = .ok (.invokevirtual 57, 3)) (hdd : 11 + 1 ≤ d) (hw8 : (rest.map fun v => v.category).sum ≤ 8) (hw : wX1_change x sh V R c1 n1 a1 a2 a3 Q X) (hcc : c1 + c ≤ cq ∧ n1 + n ≤ nq) (kk : ∀ r sh' V' R', Q r sh' V' R' → J G l M d c n (pc + 3) lv (.int r :: rest) (mk sh' V' R') post xp) (kx : ∀ E sh' V' R', X E sh' V' R' → JX G l M d c n pc lv E (mk sh' V' R') post xp) : J G l M d cq nq pc lv (.int a3 :: .int a2 :: .int a1 :: .ref x :: rest) (mk sh V R) post xp := by
  exact J.callV (As := [.int a1, .int a2, .int a3]) (hcw := by rw [hM]; exact lw_V q1806 q1807 q1808 q144 q1809) (mX1_change htr (Nat.le_refl _) hT hw) hd rfl ⟨0, _, _, mk_at (hT.at 0 rfl), rfl, rfl, fun _ => rfl⟩ ⟨rfl, by decide, by decide, by show _ = some 3; decide +kernel⟩ hw8 ⟨hdd, by decide⟩ hcc (fun r9 g9 h9 => by obtain ⟨s9, V9, R9, rfl, r, rfl, h⟩ := h9; exact kk r s9 V9 R9 h) (fun E9 g9 h9 => by obtain ⟨s9, V9, R9, rfl, h⟩ := h9; exact kx E9 s9 V9 R9 h)
-- VisitingHoursLaw.change(LVisitingHours;III[J)I
def wX0_change (x : Nat) (sh : List jH) (V : Nat → Nat → Int32) (R : Nat → Nat → Option Nat) (c : Nat) (n : Nat) (a2 : Int32) (a3 : Int32) (a4 : Int32) (a5 : Nat) (Q : Int32 → List jH → (Nat → Nat → Int32) → (Nat → Nat → Option Nat) → Prop) : Prop :=
  (∃ c17 n17 c27 n27 : Nat, c17 + c27 ≤ c ∧ n17 + n27 ≤ n ∧ (wX1_change x sh V R c17 n17 a2 a3 a4 (fun r7 sh7 V7 R7 => (jReg shX1 sh7 x ∧ (∀ y11 : Int64, y11 = r7.toInt64 → (∃ f11 : Nat → Int64, sh7[a5]? = some (jF (.inl (3, 1, .inr (.inl f11)))) ∧ jn ≤ a5 ∧ (∀ sh11 : List jH, sh11 = sh7.set a5 (jF (.inl (3, 1, .inr (.inl (vp_updL f11 0 y11))))) → (jReg shX1 sh11 x ∧ Q (0 : Int32) sh11 V7 R7)))))) (fun E9 shx Vx Rx => (jReg shX1 shx x ∧ ((E9 = "java/lang/IndexOutOfBoundsException" ∧ Q (1 : Int32) shx Vx Rx) ∨ (E9 = "java/lang/IllegalArgumentException" ∧ Q (2 : Int32) shx Vx Rx))))))
theorem mX0_change {G : jG} {l : Launch} {d : Nat} (htr : l.stackTraces = false) (hdd : 12 ≤ d) {sh : List jH} {V : Nat → Nat → Int32} {R : Nat → Nat → Option Nat} {c : Nat} {n : Nat} {x : Nat} (hT : jReg shX1 sh x) {a2 : Int32} {a3 : Int32} {a4 : Int32} {a5 : Nat} {Q : Int32 → List jH → (Nat → Nat → Int32) → (Nat → Nat → Option Nat) → Prop} (hw : wX0_change x sh V R c n a2 a3 a4 a5 Q) : JM G l MX0_change d c n [.ref x, .int a2, .int a3, .int a4, .ref a5] (mk sh V R) (jSr Q) jNo := by
  refine JM.introH (h9 := _) (t9 := _) (by decide) rfl htr (Nat.le_of_ble_eq_true rfl) ?_
  show J G l MX0_change d c n 0 [(0, .ref x), (1, .int a2), (2, .int a3), (3, .int a4), (4, .ref a5)] [] (mk sh V R) _ _
  unfold wX0_change at hw
  refine J.aload 4 dX0_change_0 rfl ?_
  refine J.iconst (v := (0 : Int32)) dX0_change_2 (by decide) ?_
  refine J.aload_n 0 dX0_change_3 rfl ?_
  refine J.iload_n 1 dX0_change_4 rfl ?_
  refine J.iload_n 2 dX0_change_5 rfl ?_
  refine J.iload_n 3 dX0_change_6 rfl ?_
  obtain ⟨c17, n17, c27, n27, hc7, hd7, hw⟩ := hw
  refine uX0_57 rfl htr hT dX0_change_7 (by omega) (Nat.le_of_ble_eq_true rfl) hw ⟨hc7, hd7⟩ ?_ ?_
  rotate_left
  · clear hw
    intro E9 shx Vx Rx hw
    clear hT
    obtain ⟨hT, hw⟩ := hw
    rcases hw with ⟨rfl, hw⟩ | ⟨rfl, hw⟩
    · refine JX.catch2 (nm := "java/lang/IndexOutOfBoundsException") (tableOf []) (jent (0, 12, 15, 24)) (tableOf [(0, 12, 19, 13)]) rfl (fun _ h => absurd h List.not_mem_nil) (by decide) (by decide) q1637 nw1670 dX0_change_15 (by decide) ?_
      refine J.iconst (v := (1 : Int32)) dX0_change_17 (by decide) ?_
      exact J.iret rfl dX0_change_18 ⟨_, _, _, rfl, _, rfl, hw⟩
    · refine JX.catch2 (nm := "java/lang/IllegalArgumentException") (tableOf [(0, 12, 15, 24)]) (jent (0, 12, 19, 13)) (tableOf []) rfl (List.forall_mem_cons.mpr ⟨Or.inr ⟨by decide, "java/lang/IndexOutOfBoundsException", q1637, List.mem_of_getElem? (i := 0) rfl⟩, (fun _ h => absurd h List.not_mem_nil)⟩) (by decide) (by decide) q807 nw1003 dX0_change_19 (by decide) ?_
      refine J.iconst (v := (2 : Int32)) dX0_change_21 (by decide) ?_
      exact J.iret rfl dX0_change_22 ⟨_, _, _, rfl, _, rfl, hw⟩
  clear hw
  intro r7 sh7 V7 R7 hw
  clear hT
  obtain ⟨hT, hw⟩ := hw
  refine J.i2l dX0_change_10 ?_
  refine J.nmL hw ?_
  clear hw
  intro y11 hw
  obtain ⟨f11, hk11, hn11, hw⟩ := hw
  refine JV.last0 dX0_change_11 hn11 hk11 ?_
  refine J.nms hw ?_
  clear hw
  intro sh11 hw
  clear hT
  obtain ⟨hT, hw⟩ := hw
  refine J.goto 23 dX0_change_12 (by decide) ?_
  refine J.iconst (v := (0 : Int32)) dX0_change_23 (by decide) ?_
  exact J.iret rfl dX0_change_24 ⟨_, _, _, rfl, _, rfl, hw⟩
abbrev MX0_mark : jM := (yX0_mark, cX0_mark, 5, some .int, [(0, 10, 13, 24), (0, 10, 17, 13)])
theorem uX0_60 {G : jG} {l : Launch} {M : jM} {d c n pc : Nat} {lv : List (Nat × Value)} {rest : List Value} {post : Option Value → List jC → Prop} {xp : String → List jC → Prop} (hM : M.1.cls = RX0) (htr : l.stackTraces = false) {sh : List jH} {V : Nat → Nat → Int32} {R : Nat → Nat → Option Nat} {x : Nat} (hT : jReg shX1 sh x) {a1 : Int32} {a2 : Int32} {c1 n1 cq nq : Nat} {Q : Int32 → List jH → (Nat → Nat → Int32) → (Nat → Nat → Option Nat) → Prop} {X : String → List jH → (Nat → Nat → Int32) → (Nat → Nat → Option Nat) → Prop} (hd : decode M.2.1 pc = .ok (.invokevirtual 60, 3)) (hdd : 10 + 1 ≤ d) (hw8 : (rest.map fun v => v.category).sum ≤ 8) (hw : wX1_mark x sh V R c1 n1 a1 a2 Q X) (hcc : c1 + c ≤ cq ∧ n1 + n ≤ nq) (kk : ∀ r sh' V' R', Q r sh' V' R' → J G l M d c n (pc + 3) lv (.int r :: rest) (mk sh' V' R') post xp) (kx : ∀ E sh' V' R', X E sh' V' R' → JX G l M d c n pc lv E (mk sh' V' R') post xp) : J G l M d cq nq pc lv (.int a2 :: .int a1 :: .ref x :: rest) (mk sh V R) post xp := by
  exact J.callV (As := [.int a1, .int a2]) (hcw := by rw [hM]; exact lw_V q1820 q1821 q1822 q144 q1823) (mX1_mark htr (Nat.le_refl _) hT hw) hd rfl ⟨0, _, _, mk_at (hT.at 0 rfl), rfl, rfl, fun _ => rfl⟩ ⟨rfl, by decide, by decide, by show _ = some 2; decide +kernel⟩ hw8 ⟨hdd, by decide⟩ hcc (fun r9 g9 h9 => by obtain ⟨s9, V9, R9, rfl, r, rfl, h⟩ := h9; exact kk r s9 V9 R9 h) (fun E9 g9 h9 => by obtain ⟨s9, V9, R9, rfl, h⟩ := h9; exact kx E9 s9 V9 R9 h)
-- VisitingHoursLaw.mark(LVisitingHours;II[J)I
def wX0_mark (x : Nat) (sh : List jH) (V : Nat → Nat → Int32) (R : Nat → Nat → Option Nat) (c : Nat) (n : Nat) (a2 : Int32) (a3 : Int32) (a4 : Nat) (Q : Int32 → List jH → (Nat → Nat → Int32) → (Nat → Nat → Option Nat) → Prop) : Prop :=
  (∃ c15 n15 c25 n25 : Nat, c15 + c25 ≤ c ∧ n15 + n25 ≤ n ∧ (wX1_mark x sh V R c15 n15 a2 a3 (fun r5 sh5 V5 R5 => (jReg shX1 sh5 x ∧ (∀ y9 : Int64, y9 = r5.toInt64 → (∃ f9 : Nat → Int64, sh5[a4]? = some (jF (.inl (3, 1, .inr (.inl f9)))) ∧ jn ≤ a4 ∧ (∀ sh9 : List jH, sh9 = sh5.set a4 (jF (.inl (3, 1, .inr (.inl (vp_updL f9 0 y9))))) → (jReg shX1 sh9 x ∧ Q (0 : Int32) sh9 V5 R5)))))) (fun E9 shx Vx Rx => (jReg shX1 shx x ∧ ((E9 = "java/lang/IndexOutOfBoundsException" ∧ Q (1 : Int32) shx Vx Rx) ∨ (E9 = "java/lang/IllegalArgumentException" ∧ Q (2 : Int32) shx Vx Rx))))))
theorem mX0_mark {G : jG} {l : Launch} {d : Nat} (htr : l.stackTraces = false) (hdd : 11 ≤ d) {sh : List jH} {V : Nat → Nat → Int32} {R : Nat → Nat → Option Nat} {c : Nat} {n : Nat} {x : Nat} (hT : jReg shX1 sh x) {a2 : Int32} {a3 : Int32} {a4 : Nat} {Q : Int32 → List jH → (Nat → Nat → Int32) → (Nat → Nat → Option Nat) → Prop} (hw : wX0_mark x sh V R c n a2 a3 a4 Q) : JM G l MX0_mark d c n [.ref x, .int a2, .int a3, .ref a4] (mk sh V R) (jSr Q) jNo := by
  refine JM.introH (h9 := _) (t9 := _) (by decide) rfl htr (Nat.le_of_ble_eq_true rfl) ?_
  show J G l MX0_mark d c n 0 [(0, .ref x), (1, .int a2), (2, .int a3), (3, .ref a4)] [] (mk sh V R) _ _
  unfold wX0_mark at hw
  refine J.aload_n 3 dX0_mark_0 rfl ?_
  refine J.iconst (v := (0 : Int32)) dX0_mark_1 (by decide) ?_
  refine J.aload_n 0 dX0_mark_2 rfl ?_
  refine J.iload_n 1 dX0_mark_3 rfl ?_
  refine J.iload_n 2 dX0_mark_4 rfl ?_
  obtain ⟨c15, n15, c25, n25, hc5, hd5, hw⟩ := hw
  refine uX0_60 rfl htr hT dX0_mark_5 (by omega) (Nat.le_of_ble_eq_true rfl) hw ⟨hc5, hd5⟩ ?_ ?_
  rotate_left
  · clear hw
    intro E9 shx Vx Rx hw
    clear hT
    obtain ⟨hT, hw⟩ := hw
    rcases hw with ⟨rfl, hw⟩ | ⟨rfl, hw⟩
    · refine JX.catch2 (nm := "java/lang/IndexOutOfBoundsException") (tableOf []) (jent (0, 10, 13, 24)) (tableOf [(0, 10, 17, 13)]) rfl (fun _ h => absurd h List.not_mem_nil) (by decide) (by decide) q1637 nw1670 dX0_mark_13 (by decide) ?_
      refine J.iconst (v := (1 : Int32)) dX0_mark_15 (by decide) ?_
      exact J.iret rfl dX0_mark_16 ⟨_, _, _, rfl, _, rfl, hw⟩
    · refine JX.catch2 (nm := "java/lang/IllegalArgumentException") (tableOf [(0, 10, 13, 24)]) (jent (0, 10, 17, 13)) (tableOf []) rfl (List.forall_mem_cons.mpr ⟨Or.inr ⟨by decide, "java/lang/IndexOutOfBoundsException", q1637, List.mem_of_getElem? (i := 0) rfl⟩, (fun _ h => absurd h List.not_mem_nil)⟩) (by decide) (by decide) q807 nw1003 dX0_mark_17 (by decide) ?_
      refine J.iconst (v := (2 : Int32)) dX0_mark_19 (by decide) ?_
      exact J.iret rfl dX0_mark_20 ⟨_, _, _, rfl, _, rfl, hw⟩
  clear hw
  intro r5 sh5 V5 R5 hw
  clear hT
  obtain ⟨hT, hw⟩ := hw
  refine J.i2l dX0_mark_8 ?_
  refine J.nmL hw ?_
  clear hw
  intro y9 hw
  obtain ⟨f9, hk9, hn9, hw⟩ := hw
  refine JV.last0 dX0_mark_9 hn9 hk9 ?_
  refine J.nms hw ?_
  clear hw
  intro sh9 hw
  clear hT
  obtain ⟨hT, hw⟩ := hw
  refine J.goto 21 dX0_mark_10 (by decide) ?_
  refine J.iconst (v := (0 : Int32)) dX0_mark_21 (by decide) ?_
  exact J.iret rfl dX0_mark_22 ⟨_, _, _, rfl, _, rfl, hw⟩
abbrev MX0_gate : jM := (yX0_gate, cX0_gate, 5, some .int, [(0, 10, 13, 13)])
theorem uX0_63 {G : jG} {l : Launch} {M : jM} {d c n pc : Nat} {lv : List (Nat × Value)} {rest : List Value} {post : Option Value → List jC → Prop} {xp : String → List jC → Prop} (hM : M.1.cls = RX0) (htr : l.stackTraces = false) {sh : List jH} {V : Nat → Nat → Int32} {R : Nat → Nat → Option Nat} {x : Nat} (hT : jReg shX1 sh x) {a1 : Int32} {a2 : Int32} {c1 n1 cq nq : Nat} {Q : Int32 → List jH → (Nat → Nat → Int32) → (Nat → Nat → Option Nat) → Prop} {X : String → List jH → (Nat → Nat → Int32) → (Nat → Nat → Option Nat) → Prop} (hd : decode M.2.1 pc = .ok (.invokevirtual 63, 3)) (hdd : 9 + 1 ≤ d) (hw8 : (rest.map fun v => v.category).sum ≤ 8) (hw : wX1_gate x sh V R c1 n1 a1 a2 Q X) (hcc : c1 + c ≤ cq ∧ n1 + n ≤ nq) (kk : ∀ r sh' V' R', Q r sh' V' R' → J G l M d c n (pc + 3) lv (.int r :: rest) (mk sh' V' R') post xp) (kx : ∀ E sh' V' R', X E sh' V' R' → JX G l M d c n pc lv E (mk sh' V' R') post xp) : J G l M d cq nq pc lv (.int a2 :: .int a1 :: .ref x :: rest) (mk sh V R) post xp := by
  exact J.callV (As := [.int a1, .int a2]) (hcw := by rw [hM]; exact lw_V q1827 q1828 q1829 q144 q1830) (mX1_gate htr (Nat.le_refl _) hT hw) hd rfl ⟨0, _, _, mk_at (hT.at 0 rfl), rfl, rfl, fun _ => rfl⟩ ⟨rfl, by decide, by decide, by show _ = some 2; decide +kernel⟩ hw8 ⟨hdd, by decide⟩ hcc (fun r9 g9 h9 => by obtain ⟨s9, V9, R9, rfl, r, rfl, h⟩ := h9; exact kk r s9 V9 R9 h) (fun E9 g9 h9 => by obtain ⟨s9, V9, R9, rfl, h⟩ := h9; exact kx E9 s9 V9 R9 h)
-- VisitingHoursLaw.gate(LVisitingHours;II[J)I
def wX0_gate (x : Nat) (sh : List jH) (V : Nat → Nat → Int32) (R : Nat → Nat → Option Nat) (c : Nat) (n : Nat) (a2 : Int32) (a3 : Int32) (a4 : Nat) (Q : Int32 → List jH → (Nat → Nat → Int32) → (Nat → Nat → Option Nat) → Prop) : Prop :=
  (∃ c15 n15 c25 n25 : Nat, c15 + c25 ≤ c ∧ n15 + n25 ≤ n ∧ (wX1_gate x sh V R c15 n15 a2 a3 (fun r5 sh5 V5 R5 => (jReg shX1 sh5 x ∧ (∀ y9 : Int64, y9 = r5.toInt64 → (∃ f9 : Nat → Int64, sh5[a4]? = some (jF (.inl (3, 1, .inr (.inl f9)))) ∧ jn ≤ a4 ∧ (∀ sh9 : List jH, sh9 = sh5.set a4 (jF (.inl (3, 1, .inr (.inl (vp_updL f9 0 y9))))) → (jReg shX1 sh9 x ∧ Q (0 : Int32) sh9 V5 R5)))))) (fun E9 shx Vx Rx => (jReg shX1 shx x ∧ ((E9 = "java/lang/IllegalArgumentException" ∧ Q (1 : Int32) shx Vx Rx))))))
theorem mX0_gate {G : jG} {l : Launch} {d : Nat} (htr : l.stackTraces = false) (hdd : 10 ≤ d) {sh : List jH} {V : Nat → Nat → Int32} {R : Nat → Nat → Option Nat} {c : Nat} {n : Nat} {x : Nat} (hT : jReg shX1 sh x) {a2 : Int32} {a3 : Int32} {a4 : Nat} {Q : Int32 → List jH → (Nat → Nat → Int32) → (Nat → Nat → Option Nat) → Prop} (hw : wX0_gate x sh V R c n a2 a3 a4 Q) : JM G l MX0_gate d c n [.ref x, .int a2, .int a3, .ref a4] (mk sh V R) (jSr Q) jNo := by
  refine JM.introH (h9 := _) (t9 := _) (by decide) rfl htr (Nat.le_of_ble_eq_true rfl) ?_
  show J G l MX0_gate d c n 0 [(0, .ref x), (1, .int a2), (2, .int a3), (3, .ref a4)] [] (mk sh V R) _ _
  unfold wX0_gate at hw
  refine J.aload_n 3 dX0_gate_0 rfl ?_
  refine J.iconst (v := (0 : Int32)) dX0_gate_1 (by decide) ?_
  refine J.aload_n 0 dX0_gate_2 rfl ?_
  refine J.iload_n 1 dX0_gate_3 rfl ?_
  refine J.iload_n 2 dX0_gate_4 rfl ?_
  obtain ⟨c15, n15, c25, n25, hc5, hd5, hw⟩ := hw
  refine uX0_63 rfl htr hT dX0_gate_5 (by omega) (Nat.le_of_ble_eq_true rfl) hw ⟨hc5, hd5⟩ ?_ ?_
  rotate_left
  · clear hw
    intro E9 shx Vx Rx hw
    clear hT
    obtain ⟨hT, hw⟩ := hw
    obtain ⟨rfl, hw⟩ := hw
    refine JX.catch2 (nm := "java/lang/IllegalArgumentException") (tableOf []) (jent (0, 10, 13, 13)) (tableOf []) rfl (fun _ h => absurd h List.not_mem_nil) (by decide) (by decide) q807 nw1003 dX0_gate_13 (by decide) ?_
    refine J.iconst (v := (1 : Int32)) dX0_gate_15 (by decide) ?_
    exact J.iret rfl dX0_gate_16 ⟨_, _, _, rfl, _, rfl, hw⟩
  clear hw
  intro r5 sh5 V5 R5 hw
  clear hT
  obtain ⟨hT, hw⟩ := hw
  refine J.i2l dX0_gate_8 ?_
  refine J.nmL hw ?_
  clear hw
  intro y9 hw
  obtain ⟨f9, hk9, hn9, hw⟩ := hw
  refine JV.last0 dX0_gate_9 hn9 hk9 ?_
  refine J.nms hw ?_
  clear hw
  intro sh9 hw
  clear hT
  obtain ⟨hT, hw⟩ := hw
  refine J.goto 17 dX0_gate_10 (by decide) ?_
  refine J.iconst (v := (0 : Int32)) dX0_gate_17 (by decide) ?_
  exact J.iret rfl dX0_gate_18 ⟨_, _, _, rfl, _, rfl, hw⟩
abbrev MX0_value : jM := (yX0_value, cX0_value, 7, some .int, [(0, 14, 17, 24), (0, 14, 21, 13)])
theorem uX0_66 {G : jG} {l : Launch} {M : jM} {d c n pc : Nat} {lv : List (Nat × Value)} {rest : List Value} {post : Option Value → List jC → Prop} {xp : String → List jC → Prop} (hM : M.1.cls = RX0) (htr : l.stackTraces = false) {sh : List jH} {V : Nat → Nat → Int32} {R : Nat → Nat → Option Nat} {x : Nat} (hT : jReg shX1 sh x) {a1 : Int32} {a2 : Int32} {a3 : Int32} {a4 : Int32} {c1 n1 cq nq : Nat} {Q : Int32 → List jH → (Nat → Nat → Int32) → (Nat → Nat → Option Nat) → Prop} {X : String → List jH → (Nat → Nat → Int32) → (Nat → Nat → Option Nat) → Prop} (hd : decode M.2.1 pc = .ok (.invokevirtual 66, 3)) (hdd : 10 + 1 ≤ d) (hw8 : (rest.map fun v => v.category).sum ≤ 8) (hw : wX1_value x sh V R c1 n1 a1 a2 a3 a4 Q X) (hcc : c1 + c ≤ cq ∧ n1 + n ≤ nq) (kk : ∀ r sh' V' R', Q r sh' V' R' → J G l M d c n (pc + 3) lv (.int r :: rest) (mk sh' V' R') post xp) (kx : ∀ E sh' V' R', X E sh' V' R' → JX G l M d c n pc lv E (mk sh' V' R') post xp) : J G l M d cq nq pc lv (.int a4 :: .int a3 :: .int a2 :: .int a1 :: .ref x :: rest) (mk sh V R) post xp := by
  exact J.callV (As := [.int a1, .int a2, .int a3, .int a4]) (hcw := by rw [hM]; exact lw_V q1834 q1835 q1836 q144 q1837) (mX1_value htr (Nat.le_refl _) hT hw) hd rfl ⟨0, _, _, mk_at (hT.at 0 rfl), rfl, rfl, fun _ => rfl⟩ ⟨rfl, by decide, by decide, by show _ = some 4; decide +kernel⟩ hw8 ⟨hdd, by decide⟩ hcc (fun r9 g9 h9 => by obtain ⟨s9, V9, R9, rfl, r, rfl, h⟩ := h9; exact kk r s9 V9 R9 h) (fun E9 g9 h9 => by obtain ⟨s9, V9, R9, rfl, h⟩ := h9; exact kx E9 s9 V9 R9 h)
-- VisitingHoursLaw.value(LVisitingHours;IIZI[J)I
def wX0_value (x : Nat) (sh : List jH) (V : Nat → Nat → Int32) (R : Nat → Nat → Option Nat) (c : Nat) (n : Nat) (a2 : Int32) (a3 : Int32) (a4 : Int32) (a5 : Int32) (a6 : Nat) (Q : Int32 → List jH → (Nat → Nat → Int32) → (Nat → Nat → Option Nat) → Prop) : Prop :=
  (∃ c19 n19 c29 n29 : Nat, c19 + c29 ≤ c ∧ n19 + n29 ≤ n ∧ (wX1_value x sh V R c19 n19 a2 a3 a4 a5 (fun r9 sh9 V9 R9 => (jReg shX1 sh9 x ∧ (∀ y13 : Int64, y13 = r9.toInt64 → (∃ f13 : Nat → Int64, sh9[a6]? = some (jF (.inl (3, 1, .inr (.inl f13)))) ∧ jn ≤ a6 ∧ (∀ sh13 : List jH, sh13 = sh9.set a6 (jF (.inl (3, 1, .inr (.inl (vp_updL f13 0 y13))))) → (jReg shX1 sh13 x ∧ Q (0 : Int32) sh13 V9 R9)))))) (fun E9 shx Vx Rx => (jReg shX1 shx x ∧ ((E9 = "java/lang/IndexOutOfBoundsException" ∧ Q (1 : Int32) shx Vx Rx) ∨ (E9 = "java/lang/IllegalArgumentException" ∧ Q (2 : Int32) shx Vx Rx))))))
theorem mX0_value {G : jG} {l : Launch} {d : Nat} (htr : l.stackTraces = false) (hdd : 11 ≤ d) {sh : List jH} {V : Nat → Nat → Int32} {R : Nat → Nat → Option Nat} {c : Nat} {n : Nat} {x : Nat} (hT : jReg shX1 sh x) {a2 : Int32} {a3 : Int32} {a4 : Int32} {a5 : Int32} {a6 : Nat} {Q : Int32 → List jH → (Nat → Nat → Int32) → (Nat → Nat → Option Nat) → Prop} (hw : wX0_value x sh V R c n a2 a3 a4 a5 a6 Q) : JM G l MX0_value d c n [.ref x, .int a2, .int a3, .int a4, .int a5, .ref a6] (mk sh V R) (jSr Q) jNo := by
  refine JM.introH (h9 := _) (t9 := _) (by decide) rfl htr (Nat.le_of_ble_eq_true rfl) ?_
  show J G l MX0_value d c n 0 [(0, .ref x), (1, .int a2), (2, .int a3), (3, .int a4), (4, .int a5), (5, .ref a6)] [] (mk sh V R) _ _
  unfold wX0_value at hw
  refine J.aload 5 dX0_value_0 rfl ?_
  refine J.iconst (v := (0 : Int32)) dX0_value_2 (by decide) ?_
  refine J.aload_n 0 dX0_value_3 rfl ?_
  refine J.iload_n 1 dX0_value_4 rfl ?_
  refine J.iload_n 2 dX0_value_5 rfl ?_
  refine J.iload_n 3 dX0_value_6 rfl ?_
  refine J.iload 4 dX0_value_7 rfl ?_
  obtain ⟨c19, n19, c29, n29, hc9, hd9, hw⟩ := hw
  refine uX0_66 rfl htr hT dX0_value_9 (by omega) (Nat.le_of_ble_eq_true rfl) hw ⟨hc9, hd9⟩ ?_ ?_
  rotate_left
  · clear hw
    intro E9 shx Vx Rx hw
    clear hT
    obtain ⟨hT, hw⟩ := hw
    rcases hw with ⟨rfl, hw⟩ | ⟨rfl, hw⟩
    · refine JX.catch2 (nm := "java/lang/IndexOutOfBoundsException") (tableOf []) (jent (0, 14, 17, 24)) (tableOf [(0, 14, 21, 13)]) rfl (fun _ h => absurd h List.not_mem_nil) (by decide) (by decide) q1637 nw1670 dX0_value_17 (by decide) ?_
      refine J.iconst (v := (1 : Int32)) dX0_value_19 (by decide) ?_
      exact J.iret rfl dX0_value_20 ⟨_, _, _, rfl, _, rfl, hw⟩
    · refine JX.catch2 (nm := "java/lang/IllegalArgumentException") (tableOf [(0, 14, 17, 24)]) (jent (0, 14, 21, 13)) (tableOf []) rfl (List.forall_mem_cons.mpr ⟨Or.inr ⟨by decide, "java/lang/IndexOutOfBoundsException", q1637, List.mem_of_getElem? (i := 0) rfl⟩, (fun _ h => absurd h List.not_mem_nil)⟩) (by decide) (by decide) q807 nw1003 dX0_value_21 (by decide) ?_
      refine J.iconst (v := (2 : Int32)) dX0_value_23 (by decide) ?_
      exact J.iret rfl dX0_value_24 ⟨_, _, _, rfl, _, rfl, hw⟩
  clear hw
  intro r9 sh9 V9 R9 hw
  clear hT
  obtain ⟨hT, hw⟩ := hw
  refine J.i2l dX0_value_12 ?_
  refine J.nmL hw ?_
  clear hw
  intro y13 hw
  obtain ⟨f13, hk13, hn13, hw⟩ := hw
  refine JV.last0 dX0_value_13 hn13 hk13 ?_
  refine J.nms hw ?_
  clear hw
  intro sh13 hw
  clear hT
  obtain ⟨hT, hw⟩ := hw
  refine J.goto 25 dX0_value_14 (by decide) ?_
  refine J.iconst (v := (0 : Int32)) dX0_value_25 (by decide) ?_
  exact J.iret rfl dX0_value_26 ⟨_, _, _, rfl, _, rfl, hw⟩
abbrev MX0_weeks : jM := (yX0_weeks, cX0_weeks, 4, some .int, [(0, 9, 12, 13)])
theorem uX0_70 {G : jG} {l : Launch} {M : jM} {d c n pc : Nat} {lv : List (Nat × Value)} {rest : List Value} {post : Option Value → List jC → Prop} {xp : String → List jC → Prop} (hM : M.1.cls = RX0) (htr : l.stackTraces = false) {sh : List jH} {V : Nat → Nat → Int32} {R : Nat → Nat → Option Nat} {x : Nat} (hT : jReg shX1 sh x) {a1 : Int32} {c1 n1 cq nq : Nat} {Q : Int32 → List jH → (Nat → Nat → Int32) → (Nat → Nat → Option Nat) → Prop} {X : String → List jH → (Nat → Nat → Int32) → (Nat → Nat → Option Nat) → Prop} (hd : decode M.2.1 pc = .ok (.invokevirtual 70, 3)) (hdd : 45 + 1 ≤ d) (hw8 : (rest.map fun v => v.category).sum ≤ 8) (hw : wX1_weeks x sh V R c1 n1 a1 Q X) (hcc : c1 + c ≤ cq ∧ n1 + n ≤ nq) (kk : ∀ r sh' V' R', Q r sh' V' R' → J G l M d c n (pc + 3) lv (.int r :: rest) (mk sh' V' R') post xp) (kx : ∀ E sh' V' R', X E sh' V' R' → JX G l M d c n pc lv E (mk sh' V' R') post xp) : J G l M d cq nq pc lv (.int a1 :: .ref x :: rest) (mk sh V R) post xp := by
  exact J.callV (As := [.int a1]) (hcw := by rw [hM]; exact lw_V q1841 q1842 q1843 q144 q1844) (mX1_weeks htr (Nat.le_refl _) hT hw) hd rfl ⟨0, _, _, mk_at (hT.at 0 rfl), rfl, rfl, fun _ => rfl⟩ ⟨rfl, by decide, by decide, by show _ = some 1; decide +kernel⟩ hw8 ⟨hdd, by decide⟩ hcc (fun r9 g9 h9 => by obtain ⟨s9, V9, R9, rfl, r, rfl, h⟩ := h9; exact kk r s9 V9 R9 h) (fun E9 g9 h9 => by obtain ⟨s9, V9, R9, rfl, h⟩ := h9; exact kx E9 s9 V9 R9 h)
-- VisitingHoursLaw.weeks(LVisitingHours;I[J)I
def wX0_weeks (x : Nat) (sh : List jH) (V : Nat → Nat → Int32) (R : Nat → Nat → Option Nat) (c : Nat) (n : Nat) (a2 : Int32) (a3 : Nat) (Q : Int32 → List jH → (Nat → Nat → Int32) → (Nat → Nat → Option Nat) → Prop) : Prop :=
  (∃ c14 n14 c24 n24 : Nat, c14 + c24 ≤ c ∧ n14 + n24 ≤ n ∧ (wX1_weeks x sh V R c14 n14 a2 (fun r4 sh4 V4 R4 => (jReg shX1 sh4 x ∧ (∀ y8 : Int64, y8 = r4.toInt64 → (∃ f8 : Nat → Int64, sh4[a3]? = some (jF (.inl (3, 1, .inr (.inl f8)))) ∧ jn ≤ a3 ∧ (∀ sh8 : List jH, sh8 = sh4.set a3 (jF (.inl (3, 1, .inr (.inl (vp_updL f8 0 y8))))) → (jReg shX1 sh8 x ∧ Q (0 : Int32) sh8 V4 R4)))))) (fun E9 shx Vx Rx => (jReg shX1 shx x ∧ ((E9 = "java/lang/IllegalArgumentException" ∧ Q (1 : Int32) shx Vx Rx))))))
theorem mX0_weeks {G : jG} {l : Launch} {d : Nat} (htr : l.stackTraces = false) (hdd : 46 ≤ d) {sh : List jH} {V : Nat → Nat → Int32} {R : Nat → Nat → Option Nat} {c : Nat} {n : Nat} {x : Nat} (hT : jReg shX1 sh x) {a2 : Int32} {a3 : Nat} {Q : Int32 → List jH → (Nat → Nat → Int32) → (Nat → Nat → Option Nat) → Prop} (hw : wX0_weeks x sh V R c n a2 a3 Q) : JM G l MX0_weeks d c n [.ref x, .int a2, .ref a3] (mk sh V R) (jSr Q) jNo := by
  refine JM.introH (h9 := _) (t9 := _) (by decide) rfl htr (Nat.le_of_ble_eq_true rfl) ?_
  show J G l MX0_weeks d c n 0 [(0, .ref x), (1, .int a2), (2, .ref a3)] [] (mk sh V R) _ _
  unfold wX0_weeks at hw
  refine J.aload_n 2 dX0_weeks_0 rfl ?_
  refine J.iconst (v := (0 : Int32)) dX0_weeks_1 (by decide) ?_
  refine J.aload_n 0 dX0_weeks_2 rfl ?_
  refine J.iload_n 1 dX0_weeks_3 rfl ?_
  obtain ⟨c14, n14, c24, n24, hc4, hd4, hw⟩ := hw
  refine uX0_70 rfl htr hT dX0_weeks_4 (by omega) (Nat.le_of_ble_eq_true rfl) hw ⟨hc4, hd4⟩ ?_ ?_
  rotate_left
  · clear hw
    intro E9 shx Vx Rx hw
    clear hT
    obtain ⟨hT, hw⟩ := hw
    obtain ⟨rfl, hw⟩ := hw
    refine JX.catch1 (nm := "java/lang/IllegalArgumentException") (tableOf []) (jent (0, 9, 12, 13)) (tableOf []) rfl (fun _ h => absurd h List.not_mem_nil) (by decide) (by decide) q807 nw1003 dX0_weeks_12 (by decide) ?_
    refine J.iconst (v := (1 : Int32)) dX0_weeks_13 (by decide) ?_
    exact J.iret rfl dX0_weeks_14 ⟨_, _, _, rfl, _, rfl, hw⟩
  clear hw
  intro r4 sh4 V4 R4 hw
  clear hT
  obtain ⟨hT, hw⟩ := hw
  refine J.i2l dX0_weeks_7 ?_
  refine J.nmL hw ?_
  clear hw
  intro y8 hw
  obtain ⟨f8, hk8, hn8, hw⟩ := hw
  refine JV.last0 dX0_weeks_8 hn8 hk8 ?_
  refine J.nms hw ?_
  clear hw
  intro sh8 hw
  clear hT
  obtain ⟨hT, hw⟩ := hw
  refine J.goto 15 dX0_weeks_9 (by decide) ?_
  refine J.iconst (v := (0 : Int32)) dX0_weeks_15 (by decide) ?_
  exact J.iret rfl dX0_weeks_16 ⟨_, _, _, rfl, _, rfl, hw⟩
abbrev MX0_hostBest : jM := (yX0_hostBest, cX0_hostBest, 4, some .int, [(0, 9, 12, 24)])
theorem uX0_74 {G : jG} {l : Launch} {M : jM} {d c n pc : Nat} {lv : List (Nat × Value)} {rest : List Value} {post : Option Value → List jC → Prop} {xp : String → List jC → Prop} (hM : M.1.cls = RX0) (htr : l.stackTraces = false) {sh : List jH} {V : Nat → Nat → Int32} {R : Nat → Nat → Option Nat} {x : Nat} (hT : jReg shX1 sh x) {a1 : Int32} {Q : Int32 → (Nat → Nat → Int32) → Prop} (hd : decode M.2.1 pc = .ok (.invokevirtual 74, 3)) (hdd : 10 + 1 ≤ d) (hw8 : (rest.map fun v => v.category).sum ≤ 8) (hw : wX1_hostBest x V a1 Q (fun _ _ => False)) (kk : ∀ r V', Q r V' → J G l M d c n (pc + 3) lv (.int r :: rest) (mk sh V' R) post xp) : J G l M d c n pc lv (.int a1 :: .ref x :: rest) (mk sh V R) post xp := by
  exact J.callV (c' := 0) (n' := 0) (As := [.int a1]) (hcw := by rw [hM]; exact lw_V q1877 q1878 q1879 q144 q1880) (mX1_hostBest htr hT hw (Or.inl (fun _ _ h => h))) hd rfl ⟨0, _, _, mk_at (hT.at 0 rfl), rfl, rfl, fun _ => rfl⟩ ⟨rfl, by decide, by decide, by show _ = some 1; decide +kernel⟩ hw8 ⟨hdd, by decide⟩ jcc0 (fun r9 g9 h9 => by obtain ⟨V9, rfl, r, rfl, h⟩ := h9; exact kk r V9 h) (fun E9 g9 h9 => by obtain ⟨_, _, h⟩ := h9; exact h.elim)
theorem uxX0_74 {G : jG} {l : Launch} {M : jM} {d c n pc : Nat} {lv : List (Nat × Value)} {rest : List Value} {post : Option Value → List jC → Prop} {xp : String → List jC → Prop} (hM : M.1.cls = RX0) (htr : l.stackTraces = false) {sh : List jH} {V : Nat → Nat → Int32} {R : Nat → Nat → Option Nat} {x : Nat} (hT : jReg shX1 sh x) {a1 : Int32} {X : String → (Nat → Nat → Int32) → Prop} (hd : decode M.2.1 pc = .ok (.invokevirtual 74, 3)) (hdd : 10 + 1 ≤ d) (hw8 : (rest.map fun v => v.category).sum ≤ 8) (hw : wX1_hostBest x V a1 (fun _ _ => False) X) (hb : (∀ E V', ¬ X E V') ∨ 1 ≤ c ∧ 6 ≤ n) (kx : ∀ E V', X E V' → JX G l M d 0 0 pc lv E (mk sh V' R) post xp) : J G l M d c n pc lv (.int a1 :: .ref x :: rest) (mk sh V R) post xp := by
  exact J.callV (c := 0) (n := 0) (c' := c) (n' := n) (As := [.int a1]) (hcw := by rw [hM]; exact lw_V q1877 q1878 q1879 q144 q1880) (mX1_hostBest htr hT hw hb) hd rfl ⟨0, _, _, mk_at (hT.at 0 rfl), rfl, rfl, fun _ => rfl⟩ ⟨rfl, by decide, by decide, by show _ = some 1; decide +kernel⟩ hw8 ⟨hdd, by decide⟩ ⟨by omega, by omega⟩ (fun r9 g9 h9 => by obtain ⟨_, _, _, _, h⟩ := h9; exact h.elim) (fun E9 g9 h9 => by obtain ⟨V9, rfl, h⟩ := h9; exact kx E9 V9 h)
-- VisitingHoursLaw.hostBest(LVisitingHours;I[J)I
def wX0_hostBest (x : Nat) (sh : List jH) (V : Nat → Nat → Int32) (R : Nat → Nat → Option Nat) (c : Nat) (n : Nat) (a2 : Int32) (a3 : Nat) (Q : Int32 → List jH → (Nat → Nat → Int32) → (Nat → Nat → Option Nat) → Prop) : Prop :=
  ((wX1_hostBest x V a2 (fun r4 V4 => (∀ y8 : Int64, y8 = r4.toInt64 → (∃ f8 : Nat → Int64, sh[a3]? = some (jF (.inl (3, 1, .inr (.inl f8)))) ∧ jn ≤ a3 ∧ (∀ sh8 : List jH, sh8 = sh.set a3 (jF (.inl (3, 1, .inr (.inl (vp_updL f8 0 y8))))) → (jReg shX1 sh8 x ∧ Q (0 : Int32) sh8 V4 R))))) (fun _ _ => False)) ∨ (wX1_hostBest x V a2 (fun _ _ => False) (fun E9 Vx => ((E9 = "java/lang/IndexOutOfBoundsException" ∧ Q (1 : Int32) sh Vx R))) ∧ 1 ≤ c ∧ 6 ≤ n))
theorem mX0_hostBest {G : jG} {l : Launch} {d : Nat} (htr : l.stackTraces = false) (hdd : 11 ≤ d) {sh : List jH} {V : Nat → Nat → Int32} {R : Nat → Nat → Option Nat} {c : Nat} {n : Nat} {x : Nat} (hT : jReg shX1 sh x) {a2 : Int32} {a3 : Nat} {Q : Int32 → List jH → (Nat → Nat → Int32) → (Nat → Nat → Option Nat) → Prop} (hw : wX0_hostBest x sh V R c n a2 a3 Q) : JM G l MX0_hostBest d c n [.ref x, .int a2, .ref a3] (mk sh V R) (jSr Q) jNo := by
  refine JM.introH (h9 := _) (t9 := _) (by decide) rfl htr (Nat.le_of_ble_eq_true rfl) ?_
  show J G l MX0_hostBest d c n 0 [(0, .ref x), (1, .int a2), (2, .ref a3)] [] (mk sh V R) _ _
  unfold wX0_hostBest at hw
  refine J.aload_n 2 dX0_hostBest_0 rfl ?_
  refine J.iconst (v := (0 : Int32)) dX0_hostBest_1 (by decide) ?_
  refine J.aload_n 0 dX0_hostBest_2 rfl ?_
  refine J.iload_n 1 dX0_hostBest_3 rfl ?_
  rcases hw with hw | hw
  rotate_left
  · refine uxX0_74 rfl htr hT dX0_hostBest_4 (by omega) (Nat.le_of_ble_eq_true rfl) hw.1 (Or.inr hw.2) ?_
    clear hw
    intro E9 Vx hw
    obtain ⟨rfl, hw⟩ := hw
    refine JX.catch1 (nm := "java/lang/IndexOutOfBoundsException") (tableOf []) (jent (0, 9, 12, 24)) (tableOf []) rfl (fun _ h => absurd h List.not_mem_nil) (by decide) (by decide) q1637 nw1670 dX0_hostBest_12 (by decide) ?_
    refine J.iconst (v := (1 : Int32)) dX0_hostBest_13 (by decide) ?_
    exact J.iret rfl dX0_hostBest_14 ⟨_, _, _, rfl, _, rfl, hw⟩
  refine uX0_74 rfl htr hT dX0_hostBest_4 (by omega) (Nat.le_of_ble_eq_true rfl) hw ?_
  clear hw
  intro r4 V4 hw
  refine J.i2l dX0_hostBest_7 ?_
  refine J.nmL hw ?_
  clear hw
  intro y8 hw
  obtain ⟨f8, hk8, hn8, hw⟩ := hw
  refine JV.last0 dX0_hostBest_8 hn8 hk8 ?_
  refine J.nms hw ?_
  clear hw
  intro sh8 hw
  clear hT
  obtain ⟨hT, hw⟩ := hw
  refine J.goto 15 dX0_hostBest_9 (by decide) ?_
  refine J.iconst (v := (0 : Int32)) dX0_hostBest_15 (by decide) ?_
  exact J.iret rfl dX0_hostBest_16 ⟨_, _, _, rfl, _, rfl, hw⟩
abbrev MX0_guestBest : jM := (yX0_guestBest, cX0_guestBest, 4, some .int, [(0, 9, 12, 24)])
theorem uX0_77 {G : jG} {l : Launch} {M : jM} {d c n pc : Nat} {lv : List (Nat × Value)} {rest : List Value} {post : Option Value → List jC → Prop} {xp : String → List jC → Prop} (hM : M.1.cls = RX0) (htr : l.stackTraces = false) {sh : List jH} {V : Nat → Nat → Int32} {R : Nat → Nat → Option Nat} {x : Nat} (hT : jReg shX1 sh x) {a1 : Int32} {Q : Int32 → (Nat → Nat → Int32) → Prop} (hd : decode M.2.1 pc = .ok (.invokevirtual 77, 3)) (hdd : 10 + 1 ≤ d) (hw8 : (rest.map fun v => v.category).sum ≤ 8) (hw : wX1_guestBest x V a1 Q (fun _ _ => False)) (kk : ∀ r V', Q r V' → J G l M d c n (pc + 3) lv (.int r :: rest) (mk sh V' R) post xp) : J G l M d c n pc lv (.int a1 :: .ref x :: rest) (mk sh V R) post xp := by
  exact J.callV (c' := 0) (n' := 0) (As := [.int a1]) (hcw := by rw [hM]; exact lw_V q1885 q1886 q1887 q144 q1888) (mX1_guestBest htr hT hw (Or.inl (fun _ _ h => h))) hd rfl ⟨0, _, _, mk_at (hT.at 0 rfl), rfl, rfl, fun _ => rfl⟩ ⟨rfl, by decide, by decide, by show _ = some 1; decide +kernel⟩ hw8 ⟨hdd, by decide⟩ jcc0 (fun r9 g9 h9 => by obtain ⟨V9, rfl, r, rfl, h⟩ := h9; exact kk r V9 h) (fun E9 g9 h9 => by obtain ⟨_, _, h⟩ := h9; exact h.elim)
theorem uxX0_77 {G : jG} {l : Launch} {M : jM} {d c n pc : Nat} {lv : List (Nat × Value)} {rest : List Value} {post : Option Value → List jC → Prop} {xp : String → List jC → Prop} (hM : M.1.cls = RX0) (htr : l.stackTraces = false) {sh : List jH} {V : Nat → Nat → Int32} {R : Nat → Nat → Option Nat} {x : Nat} (hT : jReg shX1 sh x) {a1 : Int32} {X : String → (Nat → Nat → Int32) → Prop} (hd : decode M.2.1 pc = .ok (.invokevirtual 77, 3)) (hdd : 10 + 1 ≤ d) (hw8 : (rest.map fun v => v.category).sum ≤ 8) (hw : wX1_guestBest x V a1 (fun _ _ => False) X) (hb : (∀ E V', ¬ X E V') ∨ 1 ≤ c ∧ 6 ≤ n) (kx : ∀ E V', X E V' → JX G l M d 0 0 pc lv E (mk sh V' R) post xp) : J G l M d c n pc lv (.int a1 :: .ref x :: rest) (mk sh V R) post xp := by
  exact J.callV (c := 0) (n := 0) (c' := c) (n' := n) (As := [.int a1]) (hcw := by rw [hM]; exact lw_V q1885 q1886 q1887 q144 q1888) (mX1_guestBest htr hT hw hb) hd rfl ⟨0, _, _, mk_at (hT.at 0 rfl), rfl, rfl, fun _ => rfl⟩ ⟨rfl, by decide, by decide, by show _ = some 1; decide +kernel⟩ hw8 ⟨hdd, by decide⟩ ⟨by omega, by omega⟩ (fun r9 g9 h9 => by obtain ⟨_, _, _, _, h⟩ := h9; exact h.elim) (fun E9 g9 h9 => by obtain ⟨V9, rfl, h⟩ := h9; exact kx E9 V9 h)
-- VisitingHoursLaw.guestBest(LVisitingHours;I[J)I
def wX0_guestBest (x : Nat) (sh : List jH) (V : Nat → Nat → Int32) (R : Nat → Nat → Option Nat) (c : Nat) (n : Nat) (a2 : Int32) (a3 : Nat) (Q : Int32 → List jH → (Nat → Nat → Int32) → (Nat → Nat → Option Nat) → Prop) : Prop :=
  ((wX1_guestBest x V a2 (fun r4 V4 => (∀ y8 : Int64, y8 = r4.toInt64 → (∃ f8 : Nat → Int64, sh[a3]? = some (jF (.inl (3, 1, .inr (.inl f8)))) ∧ jn ≤ a3 ∧ (∀ sh8 : List jH, sh8 = sh.set a3 (jF (.inl (3, 1, .inr (.inl (vp_updL f8 0 y8))))) → (jReg shX1 sh8 x ∧ Q (0 : Int32) sh8 V4 R))))) (fun _ _ => False)) ∨ (wX1_guestBest x V a2 (fun _ _ => False) (fun E9 Vx => ((E9 = "java/lang/IndexOutOfBoundsException" ∧ Q (1 : Int32) sh Vx R))) ∧ 1 ≤ c ∧ 6 ≤ n))
theorem mX0_guestBest {G : jG} {l : Launch} {d : Nat} (htr : l.stackTraces = false) (hdd : 11 ≤ d) {sh : List jH} {V : Nat → Nat → Int32} {R : Nat → Nat → Option Nat} {c : Nat} {n : Nat} {x : Nat} (hT : jReg shX1 sh x) {a2 : Int32} {a3 : Nat} {Q : Int32 → List jH → (Nat → Nat → Int32) → (Nat → Nat → Option Nat) → Prop} (hw : wX0_guestBest x sh V R c n a2 a3 Q) : JM G l MX0_guestBest d c n [.ref x, .int a2, .ref a3] (mk sh V R) (jSr Q) jNo := by
  refine JM.introH (h9 := _) (t9 := _) (by decide) rfl htr (Nat.le_of_ble_eq_true rfl) ?_
  show J G l MX0_guestBest d c n 0 [(0, .ref x), (1, .int a2), (2, .ref a3)] [] (mk sh V R) _ _
  unfold wX0_guestBest at hw
  refine J.aload_n 2 dX0_guestBest_0 rfl ?_
  refine J.iconst (v := (0 : Int32)) dX0_guestBest_1 (by decide) ?_
  refine J.aload_n 0 dX0_guestBest_2 rfl ?_
  refine J.iload_n 1 dX0_guestBest_3 rfl ?_
  rcases hw with hw | hw
  rotate_left
  · refine uxX0_77 rfl htr hT dX0_guestBest_4 (by omega) (Nat.le_of_ble_eq_true rfl) hw.1 (Or.inr hw.2) ?_
    clear hw
    intro E9 Vx hw
    obtain ⟨rfl, hw⟩ := hw
    refine JX.catch1 (nm := "java/lang/IndexOutOfBoundsException") (tableOf []) (jent (0, 9, 12, 24)) (tableOf []) rfl (fun _ h => absurd h List.not_mem_nil) (by decide) (by decide) q1637 nw1670 dX0_guestBest_12 (by decide) ?_
    refine J.iconst (v := (1 : Int32)) dX0_guestBest_13 (by decide) ?_
    exact J.iret rfl dX0_guestBest_14 ⟨_, _, _, rfl, _, rfl, hw⟩
  refine uX0_77 rfl htr hT dX0_guestBest_4 (by omega) (Nat.le_of_ble_eq_true rfl) hw ?_
  clear hw
  intro r4 V4 hw
  refine J.i2l dX0_guestBest_7 ?_
  refine J.nmL hw ?_
  clear hw
  intro y8 hw
  obtain ⟨f8, hk8, hn8, hw⟩ := hw
  refine JV.last0 dX0_guestBest_8 hn8 hk8 ?_
  refine J.nms hw ?_
  clear hw
  intro sh8 hw
  clear hT
  obtain ⟨hT, hw⟩ := hw
  refine J.goto 15 dX0_guestBest_9 (by decide) ?_
  refine J.iconst (v := (0 : Int32)) dX0_guestBest_15 (by decide) ?_
  exact J.iret rfl dX0_guestBest_16 ⟨_, _, _, rfl, _, rfl, hw⟩
abbrev MX0_rather : jM := (yX0_rather, cX0_rather, 3, some .int, [(0, 8, 11, 13)])
theorem uX0_80 {G : jG} {l : Launch} {M : jM} {d c n pc : Nat} {lv : List (Nat × Value)} {rest : List Value} {post : Option Value → List jC → Prop} {xp : String → List jC → Prop} (hM : M.1.cls = RX0) (htr : l.stackTraces = false) {sh : List jH} {V : Nat → Nat → Int32} {R : Nat → Nat → Option Nat} {x : Nat} (hT : jReg shX1 sh x) {Q : Int32 → (Nat → Nat → Int32) → Prop} (hd : decode M.2.1 pc = .ok (.invokevirtual 80, 3)) (hdd : 9 + 1 ≤ d) (hw8 : (rest.map fun v => v.category).sum ≤ 8) (hw : wX1_rather x V Q (fun _ _ => False)) (kk : ∀ r V', Q r V' → J G l M d c n (pc + 3) lv (.int r :: rest) (mk sh V' R) post xp) : J G l M d c n pc lv (.ref x :: rest) (mk sh V R) post xp := by
  exact J.callV (c' := 0) (n' := 0) (As := []) (hcw := by rw [hM]; exact lw_V q1893 q1894 q1895 q144 q1896) (mX1_rather htr hT hw (Or.inl (fun _ _ h => h))) hd rfl ⟨0, _, _, mk_at (hT.at 0 rfl), rfl, rfl, fun _ => rfl⟩ ⟨rfl, by decide, by decide, by show _ = some 0; decide +kernel⟩ hw8 ⟨hdd, by decide⟩ jcc0 (fun r9 g9 h9 => by obtain ⟨V9, rfl, r, rfl, h⟩ := h9; exact kk r V9 h) (fun E9 g9 h9 => by obtain ⟨_, _, h⟩ := h9; exact h.elim)
theorem uxX0_80 {G : jG} {l : Launch} {M : jM} {d c n pc : Nat} {lv : List (Nat × Value)} {rest : List Value} {post : Option Value → List jC → Prop} {xp : String → List jC → Prop} (hM : M.1.cls = RX0) (htr : l.stackTraces = false) {sh : List jH} {V : Nat → Nat → Int32} {R : Nat → Nat → Option Nat} {x : Nat} (hT : jReg shX1 sh x) {X : String → (Nat → Nat → Int32) → Prop} (hd : decode M.2.1 pc = .ok (.invokevirtual 80, 3)) (hdd : 9 + 1 ≤ d) (hw8 : (rest.map fun v => v.category).sum ≤ 8) (hw : wX1_rather x V (fun _ _ => False) X) (hb : (∀ E V', ¬ X E V') ∨ 1 ≤ c ∧ 6 ≤ n) (kx : ∀ E V', X E V' → JX G l M d 0 0 pc lv E (mk sh V' R) post xp) : J G l M d c n pc lv (.ref x :: rest) (mk sh V R) post xp := by
  exact J.callV (c := 0) (n := 0) (c' := c) (n' := n) (As := []) (hcw := by rw [hM]; exact lw_V q1893 q1894 q1895 q144 q1896) (mX1_rather htr hT hw hb) hd rfl ⟨0, _, _, mk_at (hT.at 0 rfl), rfl, rfl, fun _ => rfl⟩ ⟨rfl, by decide, by decide, by show _ = some 0; decide +kernel⟩ hw8 ⟨hdd, by decide⟩ ⟨by omega, by omega⟩ (fun r9 g9 h9 => by obtain ⟨_, _, _, _, h⟩ := h9; exact h.elim) (fun E9 g9 h9 => by obtain ⟨V9, rfl, h⟩ := h9; exact kx E9 V9 h)
-- VisitingHoursLaw.rather(LVisitingHours;[J)I
def wX0_rather (x : Nat) (sh : List jH) (V : Nat → Nat → Int32) (R : Nat → Nat → Option Nat) (c : Nat) (n : Nat) (a2 : Nat) (Q : Int32 → List jH → (Nat → Nat → Int32) → (Nat → Nat → Option Nat) → Prop) : Prop :=
  ((wX1_rather x V (fun r3 V3 => (∀ y7 : Int64, y7 = r3.toInt64 → (∃ f7 : Nat → Int64, sh[a2]? = some (jF (.inl (3, 1, .inr (.inl f7)))) ∧ jn ≤ a2 ∧ (∀ sh7 : List jH, sh7 = sh.set a2 (jF (.inl (3, 1, .inr (.inl (vp_updL f7 0 y7))))) → (jReg shX1 sh7 x ∧ Q (0 : Int32) sh7 V3 R))))) (fun _ _ => False)) ∨ (wX1_rather x V (fun _ _ => False) (fun E9 Vx => ((E9 = "java/lang/IllegalArgumentException" ∧ Q (1 : Int32) sh Vx R))) ∧ 1 ≤ c ∧ 6 ≤ n))
theorem mX0_rather {G : jG} {l : Launch} {d : Nat} (htr : l.stackTraces = false) (hdd : 10 ≤ d) {sh : List jH} {V : Nat → Nat → Int32} {R : Nat → Nat → Option Nat} {c : Nat} {n : Nat} {x : Nat} (hT : jReg shX1 sh x) {a2 : Nat} {Q : Int32 → List jH → (Nat → Nat → Int32) → (Nat → Nat → Option Nat) → Prop} (hw : wX0_rather x sh V R c n a2 Q) : JM G l MX0_rather d c n [.ref x, .ref a2] (mk sh V R) (jSr Q) jNo := by
  refine JM.introH (h9 := _) (t9 := _) (by decide) rfl htr (Nat.le_of_ble_eq_true rfl) ?_
  show J G l MX0_rather d c n 0 [(0, .ref x), (1, .ref a2)] [] (mk sh V R) _ _
  unfold wX0_rather at hw
  refine J.aload_n 1 dX0_rather_0 rfl ?_
  refine J.iconst (v := (0 : Int32)) dX0_rather_1 (by decide) ?_
  refine J.aload_n 0 dX0_rather_2 rfl ?_
  rcases hw with hw | hw
  rotate_left
  · refine uxX0_80 rfl htr hT dX0_rather_3 (by omega) (Nat.le_of_ble_eq_true rfl) hw.1 (Or.inr hw.2) ?_
    clear hw
    intro E9 Vx hw
    obtain ⟨rfl, hw⟩ := hw
    refine JX.catch1 (nm := "java/lang/IllegalArgumentException") (tableOf []) (jent (0, 8, 11, 13)) (tableOf []) rfl (fun _ h => absurd h List.not_mem_nil) (by decide) (by decide) q807 nw1003 dX0_rather_11 (by decide) ?_
    refine J.iconst (v := (1 : Int32)) dX0_rather_12 (by decide) ?_
    exact J.iret rfl dX0_rather_13 ⟨_, _, _, rfl, _, rfl, hw⟩
  refine uX0_80 rfl htr hT dX0_rather_3 (by omega) (Nat.le_of_ble_eq_true rfl) hw ?_
  clear hw
  intro r3 V3 hw
  refine J.i2l dX0_rather_6 ?_
  refine J.nmL hw ?_
  clear hw
  intro y7 hw
  obtain ⟨f7, hk7, hn7, hw⟩ := hw
  refine JV.last0 dX0_rather_7 hn7 hk7 ?_
  refine J.nms hw ?_
  clear hw
  intro sh7 hw
  clear hT
  obtain ⟨hT, hw⟩ := hw
  refine J.goto 14 dX0_rather_8 (by decide) ?_
  refine J.iconst (v := (0 : Int32)) dX0_rather_14 (by decide) ?_
  exact J.iret rfl dX0_rather_15 ⟨_, _, _, rfl, _, rfl, hw⟩
abbrev MX0_row : jM := (yX0_row, cX0_row, 6, some .int, [(0, 12, 15, 24)])
theorem uX0_83 {G : jG} {l : Launch} {M : jM} {d c n pc : Nat} {lv : List (Nat × Value)} {rest : List Value} {post : Option Value → List jC → Prop} {xp : String → List jC → Prop} (hM : M.1.cls = RX0) (htr : l.stackTraces = false) {sh : List jH} {V : Nat → Nat → Int32} {R : Nat → Nat → Option Nat} {x : Nat} (hT : jReg shX1 sh x) {a1 : Int32} {a2 : Int32} {a3 : Int32} {Q : Int32 → (Nat → Nat → Int32) → Prop} (hd : decode M.2.1 pc = .ok (.invokevirtual 83, 3)) (hdd : 10 + 1 ≤ d) (hw8 : (rest.map fun v => v.category).sum ≤ 8) (hw : wX1_row x V a1 a2 a3 Q (fun _ _ => False)) (kk : ∀ r V', Q r V' → J G l M d c n (pc + 3) lv (.int r :: rest) (mk sh V' R) post xp) : J G l M d c n pc lv (.int a3 :: .int a2 :: .int a1 :: .ref x :: rest) (mk sh V R) post xp := by
  exact J.callV (c' := 0) (n' := 0) (As := [.int a1, .int a2, .int a3]) (hcw := by rw [hM]; exact lw_V q1907 q1908 q1909 q144 q1910) (mX1_row htr hT hw (Or.inl (fun _ _ h => h))) hd rfl ⟨0, _, _, mk_at (hT.at 0 rfl), rfl, rfl, fun _ => rfl⟩ ⟨rfl, by decide, by decide, by show _ = some 3; decide +kernel⟩ hw8 ⟨hdd, by decide⟩ jcc0 (fun r9 g9 h9 => by obtain ⟨V9, rfl, r, rfl, h⟩ := h9; exact kk r V9 h) (fun E9 g9 h9 => by obtain ⟨_, _, h⟩ := h9; exact h.elim)
theorem uxX0_83 {G : jG} {l : Launch} {M : jM} {d c n pc : Nat} {lv : List (Nat × Value)} {rest : List Value} {post : Option Value → List jC → Prop} {xp : String → List jC → Prop} (hM : M.1.cls = RX0) (htr : l.stackTraces = false) {sh : List jH} {V : Nat → Nat → Int32} {R : Nat → Nat → Option Nat} {x : Nat} (hT : jReg shX1 sh x) {a1 : Int32} {a2 : Int32} {a3 : Int32} {X : String → (Nat → Nat → Int32) → Prop} (hd : decode M.2.1 pc = .ok (.invokevirtual 83, 3)) (hdd : 10 + 1 ≤ d) (hw8 : (rest.map fun v => v.category).sum ≤ 8) (hw : wX1_row x V a1 a2 a3 (fun _ _ => False) X) (hb : (∀ E V', ¬ X E V') ∨ 1 ≤ c ∧ 6 ≤ n) (kx : ∀ E V', X E V' → JX G l M d 0 0 pc lv E (mk sh V' R) post xp) : J G l M d c n pc lv (.int a3 :: .int a2 :: .int a1 :: .ref x :: rest) (mk sh V R) post xp := by
  exact J.callV (c := 0) (n := 0) (c' := c) (n' := n) (As := [.int a1, .int a2, .int a3]) (hcw := by rw [hM]; exact lw_V q1907 q1908 q1909 q144 q1910) (mX1_row htr hT hw hb) hd rfl ⟨0, _, _, mk_at (hT.at 0 rfl), rfl, rfl, fun _ => rfl⟩ ⟨rfl, by decide, by decide, by show _ = some 3; decide +kernel⟩ hw8 ⟨hdd, by decide⟩ ⟨by omega, by omega⟩ (fun r9 g9 h9 => by obtain ⟨_, _, _, _, h⟩ := h9; exact h.elim) (fun E9 g9 h9 => by obtain ⟨V9, rfl, h⟩ := h9; exact kx E9 V9 h)
-- VisitingHoursLaw.row(LVisitingHours;IIZ[J)I
def wX0_row (x : Nat) (sh : List jH) (V : Nat → Nat → Int32) (R : Nat → Nat → Option Nat) (c : Nat) (n : Nat) (a2 : Int32) (a3 : Int32) (a4 : Int32) (a5 : Nat) (Q : Int32 → List jH → (Nat → Nat → Int32) → (Nat → Nat → Option Nat) → Prop) : Prop :=
  ((wX1_row x V a2 a3 a4 (fun r7 V7 => (∀ y11 : Int64, y11 = r7.toInt64 → (∃ f11 : Nat → Int64, sh[a5]? = some (jF (.inl (3, 1, .inr (.inl f11)))) ∧ jn ≤ a5 ∧ (∀ sh11 : List jH, sh11 = sh.set a5 (jF (.inl (3, 1, .inr (.inl (vp_updL f11 0 y11))))) → (jReg shX1 sh11 x ∧ Q (0 : Int32) sh11 V7 R))))) (fun _ _ => False)) ∨ (wX1_row x V a2 a3 a4 (fun _ _ => False) (fun E9 Vx => ((E9 = "java/lang/IndexOutOfBoundsException" ∧ Q (1 : Int32) sh Vx R))) ∧ 1 ≤ c ∧ 6 ≤ n))
theorem mX0_row {G : jG} {l : Launch} {d : Nat} (htr : l.stackTraces = false) (hdd : 11 ≤ d) {sh : List jH} {V : Nat → Nat → Int32} {R : Nat → Nat → Option Nat} {c : Nat} {n : Nat} {x : Nat} (hT : jReg shX1 sh x) {a2 : Int32} {a3 : Int32} {a4 : Int32} {a5 : Nat} {Q : Int32 → List jH → (Nat → Nat → Int32) → (Nat → Nat → Option Nat) → Prop} (hw : wX0_row x sh V R c n a2 a3 a4 a5 Q) : JM G l MX0_row d c n [.ref x, .int a2, .int a3, .int a4, .ref a5] (mk sh V R) (jSr Q) jNo := by
  refine JM.introH (h9 := _) (t9 := _) (by decide) rfl htr (Nat.le_of_ble_eq_true rfl) ?_
  show J G l MX0_row d c n 0 [(0, .ref x), (1, .int a2), (2, .int a3), (3, .int a4), (4, .ref a5)] [] (mk sh V R) _ _
  unfold wX0_row at hw
  refine J.aload 4 dX0_row_0 rfl ?_
  refine J.iconst (v := (0 : Int32)) dX0_row_2 (by decide) ?_
  refine J.aload_n 0 dX0_row_3 rfl ?_
  refine J.iload_n 1 dX0_row_4 rfl ?_
  refine J.iload_n 2 dX0_row_5 rfl ?_
  refine J.iload_n 3 dX0_row_6 rfl ?_
  rcases hw with hw | hw
  rotate_left
  · refine uxX0_83 rfl htr hT dX0_row_7 (by omega) (Nat.le_of_ble_eq_true rfl) hw.1 (Or.inr hw.2) ?_
    clear hw
    intro E9 Vx hw
    obtain ⟨rfl, hw⟩ := hw
    refine JX.catch2 (nm := "java/lang/IndexOutOfBoundsException") (tableOf []) (jent (0, 12, 15, 24)) (tableOf []) rfl (fun _ h => absurd h List.not_mem_nil) (by decide) (by decide) q1637 nw1670 dX0_row_15 (by decide) ?_
    refine J.iconst (v := (1 : Int32)) dX0_row_17 (by decide) ?_
    exact J.iret rfl dX0_row_18 ⟨_, _, _, rfl, _, rfl, hw⟩
  refine uX0_83 rfl htr hT dX0_row_7 (by omega) (Nat.le_of_ble_eq_true rfl) hw ?_
  clear hw
  intro r7 V7 hw
  refine J.i2l dX0_row_10 ?_
  refine J.nmL hw ?_
  clear hw
  intro y11 hw
  obtain ⟨f11, hk11, hn11, hw⟩ := hw
  refine JV.last0 dX0_row_11 hn11 hk11 ?_
  refine J.nms hw ?_
  clear hw
  intro sh11 hw
  clear hT
  obtain ⟨hT, hw⟩ := hw
  refine J.goto 19 dX0_row_12 (by decide) ?_
  refine J.iconst (v := (0 : Int32)) dX0_row_19 (by decide) ?_
  exact J.iret rfl dX0_row_20 ⟨_, _, _, rfl, _, rfl, hw⟩
abbrev MX0_afternoon : jM := (yX0_afternoon, cX0_afternoon, 5, some .int, [(0, 10, 13, 24)])
theorem uX0_86 {G : jG} {l : Launch} {M : jM} {d c n pc : Nat} {lv : List (Nat × Value)} {rest : List Value} {post : Option Value → List jC → Prop} {xp : String → List jC → Prop} (hM : M.1.cls = RX0) (htr : l.stackTraces = false) {sh : List jH} {V : Nat → Nat → Int32} {R : Nat → Nat → Option Nat} {x : Nat} (hT : jReg shX1 sh x) {a1 : Int32} {a2 : Int32} {Q : Int32 → (Nat → Nat → Int32) → Prop} (hd : decode M.2.1 pc = .ok (.invokevirtual 86, 3)) (hdd : 10 + 1 ≤ d) (hw8 : (rest.map fun v => v.category).sum ≤ 8) (hw : wX1_afternoon x V a1 a2 Q (fun _ _ => False)) (kk : ∀ r V', Q r V' → J G l M d c n (pc + 3) lv (.int r :: rest) (mk sh V' R) post xp) : J G l M d c n pc lv (.int a2 :: .int a1 :: .ref x :: rest) (mk sh V R) post xp := by
  exact J.callV (c' := 0) (n' := 0) (As := [.int a1, .int a2]) (hcw := by rw [hM]; exact lw_V q1927 q1928 q1929 q144 q1930) (mX1_afternoon htr hT hw (Or.inl (fun _ _ h => h))) hd rfl ⟨0, _, _, mk_at (hT.at 0 rfl), rfl, rfl, fun _ => rfl⟩ ⟨rfl, by decide, by decide, by show _ = some 2; decide +kernel⟩ hw8 ⟨hdd, by decide⟩ jcc0 (fun r9 g9 h9 => by obtain ⟨V9, rfl, r, rfl, h⟩ := h9; exact kk r V9 h) (fun E9 g9 h9 => by obtain ⟨_, _, h⟩ := h9; exact h.elim)
theorem uxX0_86 {G : jG} {l : Launch} {M : jM} {d c n pc : Nat} {lv : List (Nat × Value)} {rest : List Value} {post : Option Value → List jC → Prop} {xp : String → List jC → Prop} (hM : M.1.cls = RX0) (htr : l.stackTraces = false) {sh : List jH} {V : Nat → Nat → Int32} {R : Nat → Nat → Option Nat} {x : Nat} (hT : jReg shX1 sh x) {a1 : Int32} {a2 : Int32} {X : String → (Nat → Nat → Int32) → Prop} (hd : decode M.2.1 pc = .ok (.invokevirtual 86, 3)) (hdd : 10 + 1 ≤ d) (hw8 : (rest.map fun v => v.category).sum ≤ 8) (hw : wX1_afternoon x V a1 a2 (fun _ _ => False) X) (hb : (∀ E V', ¬ X E V') ∨ 1 ≤ c ∧ 6 ≤ n) (kx : ∀ E V', X E V' → JX G l M d 0 0 pc lv E (mk sh V' R) post xp) : J G l M d c n pc lv (.int a2 :: .int a1 :: .ref x :: rest) (mk sh V R) post xp := by
  exact J.callV (c := 0) (n := 0) (c' := c) (n' := n) (As := [.int a1, .int a2]) (hcw := by rw [hM]; exact lw_V q1927 q1928 q1929 q144 q1930) (mX1_afternoon htr hT hw hb) hd rfl ⟨0, _, _, mk_at (hT.at 0 rfl), rfl, rfl, fun _ => rfl⟩ ⟨rfl, by decide, by decide, by show _ = some 2; decide +kernel⟩ hw8 ⟨hdd, by decide⟩ ⟨by omega, by omega⟩ (fun r9 g9 h9 => by obtain ⟨_, _, _, _, h⟩ := h9; exact h.elim) (fun E9 g9 h9 => by obtain ⟨V9, rfl, h⟩ := h9; exact kx E9 V9 h)
-- VisitingHoursLaw.afternoon(LVisitingHours;II[J)I
def wX0_afternoon (x : Nat) (sh : List jH) (V : Nat → Nat → Int32) (R : Nat → Nat → Option Nat) (c : Nat) (n : Nat) (a2 : Int32) (a3 : Int32) (a4 : Nat) (Q : Int32 → List jH → (Nat → Nat → Int32) → (Nat → Nat → Option Nat) → Prop) : Prop :=
  ((wX1_afternoon x V a2 a3 (fun r5 V5 => (∀ y9 : Int64, y9 = r5.toInt64 → (∃ f9 : Nat → Int64, sh[a4]? = some (jF (.inl (3, 1, .inr (.inl f9)))) ∧ jn ≤ a4 ∧ (∀ sh9 : List jH, sh9 = sh.set a4 (jF (.inl (3, 1, .inr (.inl (vp_updL f9 0 y9))))) → (jReg shX1 sh9 x ∧ Q (0 : Int32) sh9 V5 R))))) (fun _ _ => False)) ∨ (wX1_afternoon x V a2 a3 (fun _ _ => False) (fun E9 Vx => ((E9 = "java/lang/IndexOutOfBoundsException" ∧ Q (1 : Int32) sh Vx R))) ∧ 1 ≤ c ∧ 6 ≤ n))
theorem mX0_afternoon {G : jG} {l : Launch} {d : Nat} (htr : l.stackTraces = false) (hdd : 11 ≤ d) {sh : List jH} {V : Nat → Nat → Int32} {R : Nat → Nat → Option Nat} {c : Nat} {n : Nat} {x : Nat} (hT : jReg shX1 sh x) {a2 : Int32} {a3 : Int32} {a4 : Nat} {Q : Int32 → List jH → (Nat → Nat → Int32) → (Nat → Nat → Option Nat) → Prop} (hw : wX0_afternoon x sh V R c n a2 a3 a4 Q) : JM G l MX0_afternoon d c n [.ref x, .int a2, .int a3, .ref a4] (mk sh V R) (jSr Q) jNo := by
  refine JM.introH (h9 := _) (t9 := _) (by decide) rfl htr (Nat.le_of_ble_eq_true rfl) ?_
  show J G l MX0_afternoon d c n 0 [(0, .ref x), (1, .int a2), (2, .int a3), (3, .ref a4)] [] (mk sh V R) _ _
  unfold wX0_afternoon at hw
  refine J.aload_n 3 dX0_afternoon_0 rfl ?_
  refine J.iconst (v := (0 : Int32)) dX0_afternoon_1 (by decide) ?_
  refine J.aload_n 0 dX0_afternoon_2 rfl ?_
  refine J.iload_n 1 dX0_afternoon_3 rfl ?_
  refine J.iload_n 2 dX0_afternoon_4 rfl ?_
  rcases hw with hw | hw
  rotate_left
  · refine uxX0_86 rfl htr hT dX0_afternoon_5 (by omega) (Nat.le_of_ble_eq_true rfl) hw.1 (Or.inr hw.2) ?_
    clear hw
    intro E9 Vx hw
    obtain ⟨rfl, hw⟩ := hw
    refine JX.catch2 (nm := "java/lang/IndexOutOfBoundsException") (tableOf []) (jent (0, 10, 13, 24)) (tableOf []) rfl (fun _ h => absurd h List.not_mem_nil) (by decide) (by decide) q1637 nw1670 dX0_afternoon_13 (by decide) ?_
    refine J.iconst (v := (1 : Int32)) dX0_afternoon_15 (by decide) ?_
    exact J.iret rfl dX0_afternoon_16 ⟨_, _, _, rfl, _, rfl, hw⟩
  refine uX0_86 rfl htr hT dX0_afternoon_5 (by omega) (Nat.le_of_ble_eq_true rfl) hw ?_
  clear hw
  intro r5 V5 hw
  refine J.i2l dX0_afternoon_8 ?_
  refine J.nmL hw ?_
  clear hw
  intro y9 hw
  obtain ⟨f9, hk9, hn9, hw⟩ := hw
  refine JV.last0 dX0_afternoon_9 hn9 hk9 ?_
  refine J.nms hw ?_
  clear hw
  intro sh9 hw
  clear hT
  obtain ⟨hT, hw⟩ := hw
  refine J.goto 17 dX0_afternoon_10 (by decide) ?_
  refine J.iconst (v := (0 : Int32)) dX0_afternoon_17 (by decide) ?_
  exact J.iret rfl dX0_afternoon_18 ⟨_, _, _, rfl, _, rfl, hw⟩
abbrev MX0_rules : jM := (yX0_rules, cX0_rules, 4, some .int, [(0, 9, 12, 13)])
theorem uX0_89 {G : jG} {l : Launch} {M : jM} {d c n pc : Nat} {lv : List (Nat × Value)} {rest : List Value} {post : Option Value → List jC → Prop} {xp : String → List jC → Prop} (hM : M.1.cls = RX0) (htr : l.stackTraces = false) {sh : List jH} {V : Nat → Nat → Int32} {R : Nat → Nat → Option Nat} {x : Nat} (hT : jReg shX1 sh x) {a1 : Int32} {Q : Int32 → (Nat → Nat → Int32) → Prop} (hd : decode M.2.1 pc = .ok (.invokevirtual 89, 3)) (hdd : 10 + 1 ≤ d) (hw8 : (rest.map fun v => v.category).sum ≤ 8) (hw : wX1_rules x V a1 Q (fun _ _ => False)) (kk : ∀ r V', Q r V' → J G l M d c n (pc + 3) lv (.int r :: rest) (mk sh V' R) post xp) : J G l M d c n pc lv (.int a1 :: .ref x :: rest) (mk sh V R) post xp := by
  exact J.callV (c' := 0) (n' := 0) (As := [.int a1]) (hcw := by rw [hM]; exact lw_V q1946 q1947 q1948 q144 q1949) (mX1_rules htr hT hw (Or.inl (fun _ _ h => h))) hd rfl ⟨0, _, _, mk_at (hT.at 0 rfl), rfl, rfl, fun _ => rfl⟩ ⟨rfl, by decide, by decide, by show _ = some 1; decide +kernel⟩ hw8 ⟨hdd, by decide⟩ jcc0 (fun r9 g9 h9 => by obtain ⟨V9, rfl, r, rfl, h⟩ := h9; exact kk r V9 h) (fun E9 g9 h9 => by obtain ⟨_, _, h⟩ := h9; exact h.elim)
theorem uxX0_89 {G : jG} {l : Launch} {M : jM} {d c n pc : Nat} {lv : List (Nat × Value)} {rest : List Value} {post : Option Value → List jC → Prop} {xp : String → List jC → Prop} (hM : M.1.cls = RX0) (htr : l.stackTraces = false) {sh : List jH} {V : Nat → Nat → Int32} {R : Nat → Nat → Option Nat} {x : Nat} (hT : jReg shX1 sh x) {a1 : Int32} {X : String → (Nat → Nat → Int32) → Prop} (hd : decode M.2.1 pc = .ok (.invokevirtual 89, 3)) (hdd : 10 + 1 ≤ d) (hw8 : (rest.map fun v => v.category).sum ≤ 8) (hw : wX1_rules x V a1 (fun _ _ => False) X) (hb : (∀ E V', ¬ X E V') ∨ 1 ≤ c ∧ 6 ≤ n) (kx : ∀ E V', X E V' → JX G l M d 0 0 pc lv E (mk sh V' R) post xp) : J G l M d c n pc lv (.int a1 :: .ref x :: rest) (mk sh V R) post xp := by
  exact J.callV (c := 0) (n := 0) (c' := c) (n' := n) (As := [.int a1]) (hcw := by rw [hM]; exact lw_V q1946 q1947 q1948 q144 q1949) (mX1_rules htr hT hw hb) hd rfl ⟨0, _, _, mk_at (hT.at 0 rfl), rfl, rfl, fun _ => rfl⟩ ⟨rfl, by decide, by decide, by show _ = some 1; decide +kernel⟩ hw8 ⟨hdd, by decide⟩ ⟨by omega, by omega⟩ (fun r9 g9 h9 => by obtain ⟨_, _, _, _, h⟩ := h9; exact h.elim) (fun E9 g9 h9 => by obtain ⟨V9, rfl, h⟩ := h9; exact kx E9 V9 h)
-- VisitingHoursLaw.rules(LVisitingHours;Z[J)I
def wX0_rules (x : Nat) (sh : List jH) (V : Nat → Nat → Int32) (R : Nat → Nat → Option Nat) (c : Nat) (n : Nat) (a2 : Int32) (a3 : Nat) (Q : Int32 → List jH → (Nat → Nat → Int32) → (Nat → Nat → Option Nat) → Prop) : Prop :=
  ((wX1_rules x V a2 (fun r4 V4 => (∀ y8 : Int64, y8 = r4.toInt64 → (∃ f8 : Nat → Int64, sh[a3]? = some (jF (.inl (3, 1, .inr (.inl f8)))) ∧ jn ≤ a3 ∧ (∀ sh8 : List jH, sh8 = sh.set a3 (jF (.inl (3, 1, .inr (.inl (vp_updL f8 0 y8))))) → (jReg shX1 sh8 x ∧ Q (0 : Int32) sh8 V4 R))))) (fun _ _ => False)) ∨ (wX1_rules x V a2 (fun _ _ => False) (fun E9 Vx => ((E9 = "java/lang/IllegalArgumentException" ∧ Q (1 : Int32) sh Vx R))) ∧ 1 ≤ c ∧ 6 ≤ n))
theorem mX0_rules {G : jG} {l : Launch} {d : Nat} (htr : l.stackTraces = false) (hdd : 11 ≤ d) {sh : List jH} {V : Nat → Nat → Int32} {R : Nat → Nat → Option Nat} {c : Nat} {n : Nat} {x : Nat} (hT : jReg shX1 sh x) {a2 : Int32} {a3 : Nat} {Q : Int32 → List jH → (Nat → Nat → Int32) → (Nat → Nat → Option Nat) → Prop} (hw : wX0_rules x sh V R c n a2 a3 Q) : JM G l MX0_rules d c n [.ref x, .int a2, .ref a3] (mk sh V R) (jSr Q) jNo := by
  refine JM.introH (h9 := _) (t9 := _) (by decide) rfl htr (Nat.le_of_ble_eq_true rfl) ?_
  show J G l MX0_rules d c n 0 [(0, .ref x), (1, .int a2), (2, .ref a3)] [] (mk sh V R) _ _
  unfold wX0_rules at hw
  refine J.aload_n 2 dX0_rules_0 rfl ?_
  refine J.iconst (v := (0 : Int32)) dX0_rules_1 (by decide) ?_
  refine J.aload_n 0 dX0_rules_2 rfl ?_
  refine J.iload_n 1 dX0_rules_3 rfl ?_
  rcases hw with hw | hw
  rotate_left
  · refine uxX0_89 rfl htr hT dX0_rules_4 (by omega) (Nat.le_of_ble_eq_true rfl) hw.1 (Or.inr hw.2) ?_
    clear hw
    intro E9 Vx hw
    obtain ⟨rfl, hw⟩ := hw
    refine JX.catch1 (nm := "java/lang/IllegalArgumentException") (tableOf []) (jent (0, 9, 12, 13)) (tableOf []) rfl (fun _ h => absurd h List.not_mem_nil) (by decide) (by decide) q807 nw1003 dX0_rules_12 (by decide) ?_
    refine J.iconst (v := (1 : Int32)) dX0_rules_13 (by decide) ?_
    exact J.iret rfl dX0_rules_14 ⟨_, _, _, rfl, _, rfl, hw⟩
  refine uX0_89 rfl htr hT dX0_rules_4 (by omega) (Nat.le_of_ble_eq_true rfl) hw ?_
  clear hw
  intro r4 V4 hw
  refine J.i2l dX0_rules_7 ?_
  refine J.nmL hw ?_
  clear hw
  intro y8 hw
  obtain ⟨f8, hk8, hn8, hw⟩ := hw
  refine JV.last0 dX0_rules_8 hn8 hk8 ?_
  refine J.nms hw ?_
  clear hw
  intro sh8 hw
  clear hT
  obtain ⟨hT, hw⟩ := hw
  refine J.goto 15 dX0_rules_9 (by decide) ?_
  refine J.iconst (v := (0 : Int32)) dX0_rules_15 (by decide) ?_
  exact J.iret rfl dX0_rules_16 ⟨_, _, _, rfl, _, rfl, hw⟩
abbrev MX0_send : jM := (yX0_send, cX0_send, 3, some .int, [(0, 8, 11, 13)])
theorem uX0_93 {G : jG} {l : Launch} {M : jM} {d c n pc : Nat} {lv : List (Nat × Value)} {rest : List Value} {post : Option Value → List jC → Prop} {xp : String → List jC → Prop} (hM : M.1.cls = RX0) (htr : l.stackTraces = false) {sh : List jH} {V : Nat → Nat → Int32} {R : Nat → Nat → Option Nat} {x : Nat} (hT : jReg shX1 sh x) {Q : Int32 → (Nat → Nat → Int32) → Prop} (hd : decode M.2.1 pc = .ok (.invokevirtual 93, 3)) (hdd : 10 + 1 ≤ d) (hw8 : (rest.map fun v => v.category).sum ≤ 8) (hw : wX1_send x V Q (fun _ _ => False)) (kk : ∀ r V', Q r V' → J G l M d c n (pc + 3) lv (.int r :: rest) (mk sh V' R) post xp) : J G l M d c n pc lv (.ref x :: rest) (mk sh V R) post xp := by
  exact J.callV (c' := 0) (n' := 0) (As := []) (hcw := by rw [hM]; exact lw_V q1969 q1970 q1971 q144 q1972) (mX1_send htr hT hw (Or.inl (fun _ _ h => h))) hd rfl ⟨0, _, _, mk_at (hT.at 0 rfl), rfl, rfl, fun _ => rfl⟩ ⟨rfl, by decide, by decide, by show _ = some 0; decide +kernel⟩ hw8 ⟨hdd, by decide⟩ jcc0 (fun r9 g9 h9 => by obtain ⟨V9, rfl, r, rfl, h⟩ := h9; exact kk r V9 h) (fun E9 g9 h9 => by obtain ⟨_, _, h⟩ := h9; exact h.elim)
theorem uxX0_93 {G : jG} {l : Launch} {M : jM} {d c n pc : Nat} {lv : List (Nat × Value)} {rest : List Value} {post : Option Value → List jC → Prop} {xp : String → List jC → Prop} (hM : M.1.cls = RX0) (htr : l.stackTraces = false) {sh : List jH} {V : Nat → Nat → Int32} {R : Nat → Nat → Option Nat} {x : Nat} (hT : jReg shX1 sh x) {X : String → (Nat → Nat → Int32) → Prop} (hd : decode M.2.1 pc = .ok (.invokevirtual 93, 3)) (hdd : 10 + 1 ≤ d) (hw8 : (rest.map fun v => v.category).sum ≤ 8) (hw : wX1_send x V (fun _ _ => False) X) (hb : (∀ E V', ¬ X E V') ∨ 1 ≤ c ∧ 6 ≤ n) (kx : ∀ E V', X E V' → JX G l M d 0 0 pc lv E (mk sh V' R) post xp) : J G l M d c n pc lv (.ref x :: rest) (mk sh V R) post xp := by
  exact J.callV (c := 0) (n := 0) (c' := c) (n' := n) (As := []) (hcw := by rw [hM]; exact lw_V q1969 q1970 q1971 q144 q1972) (mX1_send htr hT hw hb) hd rfl ⟨0, _, _, mk_at (hT.at 0 rfl), rfl, rfl, fun _ => rfl⟩ ⟨rfl, by decide, by decide, by show _ = some 0; decide +kernel⟩ hw8 ⟨hdd, by decide⟩ ⟨by omega, by omega⟩ (fun r9 g9 h9 => by obtain ⟨_, _, _, _, h⟩ := h9; exact h.elim) (fun E9 g9 h9 => by obtain ⟨V9, rfl, h⟩ := h9; exact kx E9 V9 h)
-- VisitingHoursLaw.send(LVisitingHours;[J)I
def wX0_send (x : Nat) (sh : List jH) (V : Nat → Nat → Int32) (R : Nat → Nat → Option Nat) (c : Nat) (n : Nat) (a2 : Nat) (Q : Int32 → List jH → (Nat → Nat → Int32) → (Nat → Nat → Option Nat) → Prop) : Prop :=
  ((wX1_send x V (fun r3 V3 => (∀ y7 : Int64, y7 = r3.toInt64 → (∃ f7 : Nat → Int64, sh[a2]? = some (jF (.inl (3, 1, .inr (.inl f7)))) ∧ jn ≤ a2 ∧ (∀ sh7 : List jH, sh7 = sh.set a2 (jF (.inl (3, 1, .inr (.inl (vp_updL f7 0 y7))))) → (jReg shX1 sh7 x ∧ Q (0 : Int32) sh7 V3 R))))) (fun _ _ => False)) ∨ (wX1_send x V (fun _ _ => False) (fun E9 Vx => ((E9 = "java/lang/IllegalArgumentException" ∧ Q (1 : Int32) sh Vx R))) ∧ 1 ≤ c ∧ 6 ≤ n))
theorem mX0_send {G : jG} {l : Launch} {d : Nat} (htr : l.stackTraces = false) (hdd : 11 ≤ d) {sh : List jH} {V : Nat → Nat → Int32} {R : Nat → Nat → Option Nat} {c : Nat} {n : Nat} {x : Nat} (hT : jReg shX1 sh x) {a2 : Nat} {Q : Int32 → List jH → (Nat → Nat → Int32) → (Nat → Nat → Option Nat) → Prop} (hw : wX0_send x sh V R c n a2 Q) : JM G l MX0_send d c n [.ref x, .ref a2] (mk sh V R) (jSr Q) jNo := by
  refine JM.introH (h9 := _) (t9 := _) (by decide) rfl htr (Nat.le_of_ble_eq_true rfl) ?_
  show J G l MX0_send d c n 0 [(0, .ref x), (1, .ref a2)] [] (mk sh V R) _ _
  unfold wX0_send at hw
  refine J.aload_n 1 dX0_send_0 rfl ?_
  refine J.iconst (v := (0 : Int32)) dX0_send_1 (by decide) ?_
  refine J.aload_n 0 dX0_send_2 rfl ?_
  rcases hw with hw | hw
  rotate_left
  · refine uxX0_93 rfl htr hT dX0_send_3 (by omega) (Nat.le_of_ble_eq_true rfl) hw.1 (Or.inr hw.2) ?_
    clear hw
    intro E9 Vx hw
    obtain ⟨rfl, hw⟩ := hw
    refine JX.catch1 (nm := "java/lang/IllegalArgumentException") (tableOf []) (jent (0, 8, 11, 13)) (tableOf []) rfl (fun _ h => absurd h List.not_mem_nil) (by decide) (by decide) q807 nw1003 dX0_send_11 (by decide) ?_
    refine J.iconst (v := (1 : Int32)) dX0_send_12 (by decide) ?_
    exact J.iret rfl dX0_send_13 ⟨_, _, _, rfl, _, rfl, hw⟩
  refine uX0_93 rfl htr hT dX0_send_3 (by omega) (Nat.le_of_ble_eq_true rfl) hw ?_
  clear hw
  intro r3 V3 hw
  refine J.i2l dX0_send_6 ?_
  refine J.nmL hw ?_
  clear hw
  intro y7 hw
  obtain ⟨f7, hk7, hn7, hw⟩ := hw
  refine JV.last0 dX0_send_7 hn7 hk7 ?_
  refine J.nms hw ?_
  clear hw
  intro sh7 hw
  clear hT
  obtain ⟨hT, hw⟩ := hw
  refine J.goto 14 dX0_send_8 (by decide) ?_
  refine J.iconst (v := (0 : Int32)) dX0_send_14 (by decide) ?_
  exact J.iret rfl dX0_send_15 ⟨_, _, _, rfl, _, rfl, hw⟩
abbrev MX0_hand : jM := (yX0_hand, cX0_hand, 4, some .int, [(0, 9, 12, 13)])
theorem uX0_96 {G : jG} {l : Launch} {M : jM} {d c n pc : Nat} {lv : List (Nat × Value)} {rest : List Value} {post : Option Value → List jC → Prop} {xp : String → List jC → Prop} (hM : M.1.cls = RX0) (htr : l.stackTraces = false) {sh : List jH} {V : Nat → Nat → Int32} {R : Nat → Nat → Option Nat} {x : Nat} (hT : jReg shX1 sh x) {a1 : Int32} {Q : Int32 → (Nat → Nat → Int32) → Prop} (hd : decode M.2.1 pc = .ok (.invokevirtual 96, 3)) (hdd : 9 + 1 ≤ d) (hw8 : (rest.map fun v => v.category).sum ≤ 8) (hw : wX1_hand x V a1 Q (fun _ _ => False)) (kk : ∀ r V', Q r V' → J G l M d c n (pc + 3) lv (.int r :: rest) (mk sh V' R) post xp) : J G l M d c n pc lv (.int a1 :: .ref x :: rest) (mk sh V R) post xp := by
  exact J.callV (c' := 0) (n' := 0) (As := [.int a1]) (hcw := by rw [hM]; exact lw_V q1976 q1977 q1978 q144 q1979) (mX1_hand htr hT hw (Or.inl (fun _ _ h => h))) hd rfl ⟨0, _, _, mk_at (hT.at 0 rfl), rfl, rfl, fun _ => rfl⟩ ⟨rfl, by decide, by decide, by show _ = some 1; decide +kernel⟩ hw8 ⟨hdd, by decide⟩ jcc0 (fun r9 g9 h9 => by obtain ⟨V9, rfl, r, rfl, h⟩ := h9; exact kk r V9 h) (fun E9 g9 h9 => by obtain ⟨_, _, h⟩ := h9; exact h.elim)
theorem uxX0_96 {G : jG} {l : Launch} {M : jM} {d c n pc : Nat} {lv : List (Nat × Value)} {rest : List Value} {post : Option Value → List jC → Prop} {xp : String → List jC → Prop} (hM : M.1.cls = RX0) (htr : l.stackTraces = false) {sh : List jH} {V : Nat → Nat → Int32} {R : Nat → Nat → Option Nat} {x : Nat} (hT : jReg shX1 sh x) {a1 : Int32} {X : String → (Nat → Nat → Int32) → Prop} (hd : decode M.2.1 pc = .ok (.invokevirtual 96, 3)) (hdd : 9 + 1 ≤ d) (hw8 : (rest.map fun v => v.category).sum ≤ 8) (hw : wX1_hand x V a1 (fun _ _ => False) X) (hb : (∀ E V', ¬ X E V') ∨ 1 ≤ c ∧ 6 ≤ n) (kx : ∀ E V', X E V' → JX G l M d 0 0 pc lv E (mk sh V' R) post xp) : J G l M d c n pc lv (.int a1 :: .ref x :: rest) (mk sh V R) post xp := by
  exact J.callV (c := 0) (n := 0) (c' := c) (n' := n) (As := [.int a1]) (hcw := by rw [hM]; exact lw_V q1976 q1977 q1978 q144 q1979) (mX1_hand htr hT hw hb) hd rfl ⟨0, _, _, mk_at (hT.at 0 rfl), rfl, rfl, fun _ => rfl⟩ ⟨rfl, by decide, by decide, by show _ = some 1; decide +kernel⟩ hw8 ⟨hdd, by decide⟩ ⟨by omega, by omega⟩ (fun r9 g9 h9 => by obtain ⟨_, _, _, _, h⟩ := h9; exact h.elim) (fun E9 g9 h9 => by obtain ⟨V9, rfl, h⟩ := h9; exact kx E9 V9 h)
-- VisitingHoursLaw.hand(LVisitingHours;Z[J)I
def wX0_hand (x : Nat) (sh : List jH) (V : Nat → Nat → Int32) (R : Nat → Nat → Option Nat) (c : Nat) (n : Nat) (a2 : Int32) (a3 : Nat) (Q : Int32 → List jH → (Nat → Nat → Int32) → (Nat → Nat → Option Nat) → Prop) : Prop :=
  ((wX1_hand x V a2 (fun r4 V4 => (∀ y8 : Int64, y8 = r4.toInt64 → (∃ f8 : Nat → Int64, sh[a3]? = some (jF (.inl (3, 1, .inr (.inl f8)))) ∧ jn ≤ a3 ∧ (∀ sh8 : List jH, sh8 = sh.set a3 (jF (.inl (3, 1, .inr (.inl (vp_updL f8 0 y8))))) → (jReg shX1 sh8 x ∧ Q (0 : Int32) sh8 V4 R))))) (fun _ _ => False)) ∨ (wX1_hand x V a2 (fun _ _ => False) (fun E9 Vx => ((E9 = "java/lang/IllegalArgumentException" ∧ Q (1 : Int32) sh Vx R))) ∧ 1 ≤ c ∧ 6 ≤ n))
theorem mX0_hand {G : jG} {l : Launch} {d : Nat} (htr : l.stackTraces = false) (hdd : 10 ≤ d) {sh : List jH} {V : Nat → Nat → Int32} {R : Nat → Nat → Option Nat} {c : Nat} {n : Nat} {x : Nat} (hT : jReg shX1 sh x) {a2 : Int32} {a3 : Nat} {Q : Int32 → List jH → (Nat → Nat → Int32) → (Nat → Nat → Option Nat) → Prop} (hw : wX0_hand x sh V R c n a2 a3 Q) : JM G l MX0_hand d c n [.ref x, .int a2, .ref a3] (mk sh V R) (jSr Q) jNo := by
  refine JM.introH (h9 := _) (t9 := _) (by decide) rfl htr (Nat.le_of_ble_eq_true rfl) ?_
  show J G l MX0_hand d c n 0 [(0, .ref x), (1, .int a2), (2, .ref a3)] [] (mk sh V R) _ _
  unfold wX0_hand at hw
  refine J.aload_n 2 dX0_hand_0 rfl ?_
  refine J.iconst (v := (0 : Int32)) dX0_hand_1 (by decide) ?_
  refine J.aload_n 0 dX0_hand_2 rfl ?_
  refine J.iload_n 1 dX0_hand_3 rfl ?_
  rcases hw with hw | hw
  rotate_left
  · refine uxX0_96 rfl htr hT dX0_hand_4 (by omega) (Nat.le_of_ble_eq_true rfl) hw.1 (Or.inr hw.2) ?_
    clear hw
    intro E9 Vx hw
    obtain ⟨rfl, hw⟩ := hw
    refine JX.catch1 (nm := "java/lang/IllegalArgumentException") (tableOf []) (jent (0, 9, 12, 13)) (tableOf []) rfl (fun _ h => absurd h List.not_mem_nil) (by decide) (by decide) q807 nw1003 dX0_hand_12 (by decide) ?_
    refine J.iconst (v := (1 : Int32)) dX0_hand_13 (by decide) ?_
    exact J.iret rfl dX0_hand_14 ⟨_, _, _, rfl, _, rfl, hw⟩
  refine uX0_96 rfl htr hT dX0_hand_4 (by omega) (Nat.le_of_ble_eq_true rfl) hw ?_
  clear hw
  intro r4 V4 hw
  refine J.i2l dX0_hand_7 ?_
  refine J.nmL hw ?_
  clear hw
  intro y8 hw
  obtain ⟨f8, hk8, hn8, hw⟩ := hw
  refine JV.last0 dX0_hand_8 hn8 hk8 ?_
  refine J.nms hw ?_
  clear hw
  intro sh8 hw
  clear hT
  obtain ⟨hT, hw⟩ := hw
  refine J.goto 15 dX0_hand_9 (by decide) ?_
  refine J.iconst (v := (0 : Int32)) dX0_hand_15 (by decide) ?_
  exact J.iret rfl dX0_hand_16 ⟨_, _, _, rfl, _, rfl, hw⟩
abbrev MX0_saved : jM := (yX0_saved, cX0_saved, 5, some .int, [(0, 10, 13, 24)])
theorem uX0_99 {G : jG} {l : Launch} {M : jM} {d c n pc : Nat} {lv : List (Nat × Value)} {rest : List Value} {post : Option Value → List jC → Prop} {xp : String → List jC → Prop} (hM : M.1.cls = RX0) (htr : l.stackTraces = false) {sh : List jH} {V : Nat → Nat → Int32} {R : Nat → Nat → Option Nat} {x : Nat} (hT : jReg shX1 sh x) {a1 : Int32} {a2 : Int32} {Q : Int32 → (Nat → Nat → Int32) → Prop} (hd : decode M.2.1 pc = .ok (.invokevirtual 99, 3)) (hdd : 105 + 1 ≤ d) (hw8 : (rest.map fun v => v.category).sum ≤ 8) (hw : wX1_saved x sh R V a1 a2 Q (fun _ _ => False)) (kk : ∀ r V', Q r V' → J G l M d c n (pc + 3) lv (.int r :: rest) (mk sh V' R) post xp) : J G l M d c n pc lv (.int a2 :: .int a1 :: .ref x :: rest) (mk sh V R) post xp := by
  exact J.callV (c' := 0) (n' := 0) (As := [.int a1, .int a2]) (hcw := by rw [hM]; exact lw_V q1987 q1988 q1989 q144 q1990) (mX1_saved htr (Nat.le_refl _) hT hw (Or.inl (fun _ _ h => h))) hd rfl ⟨0, _, _, mk_at (hT.at 0 rfl), rfl, rfl, fun _ => rfl⟩ ⟨rfl, by decide, by decide, by show _ = some 2; decide +kernel⟩ hw8 ⟨hdd, by decide⟩ jcc0 (fun r9 g9 h9 => by obtain ⟨V9, rfl, r, rfl, h⟩ := h9; exact kk r V9 h) (fun E9 g9 h9 => by obtain ⟨_, _, h⟩ := h9; exact h.elim)
theorem uxX0_99 {G : jG} {l : Launch} {M : jM} {d c n pc : Nat} {lv : List (Nat × Value)} {rest : List Value} {post : Option Value → List jC → Prop} {xp : String → List jC → Prop} (hM : M.1.cls = RX0) (htr : l.stackTraces = false) {sh : List jH} {V : Nat → Nat → Int32} {R : Nat → Nat → Option Nat} {x : Nat} (hT : jReg shX1 sh x) {a1 : Int32} {a2 : Int32} {X : String → (Nat → Nat → Int32) → Prop} (hd : decode M.2.1 pc = .ok (.invokevirtual 99, 3)) (hdd : 105 + 1 ≤ d) (hw8 : (rest.map fun v => v.category).sum ≤ 8) (hw : wX1_saved x sh R V a1 a2 (fun _ _ => False) X) (hb : (∀ E V', ¬ X E V') ∨ 1 ≤ c ∧ 6 ≤ n) (kx : ∀ E V', X E V' → JX G l M d 0 0 pc lv E (mk sh V' R) post xp) : J G l M d c n pc lv (.int a2 :: .int a1 :: .ref x :: rest) (mk sh V R) post xp := by
  exact J.callV (c := 0) (n := 0) (c' := c) (n' := n) (As := [.int a1, .int a2]) (hcw := by rw [hM]; exact lw_V q1987 q1988 q1989 q144 q1990) (mX1_saved htr (Nat.le_refl _) hT hw hb) hd rfl ⟨0, _, _, mk_at (hT.at 0 rfl), rfl, rfl, fun _ => rfl⟩ ⟨rfl, by decide, by decide, by show _ = some 2; decide +kernel⟩ hw8 ⟨hdd, by decide⟩ ⟨by omega, by omega⟩ (fun r9 g9 h9 => by obtain ⟨_, _, _, _, h⟩ := h9; exact h.elim) (fun E9 g9 h9 => by obtain ⟨V9, rfl, h⟩ := h9; exact kx E9 V9 h)
-- VisitingHoursLaw.saved(LVisitingHours;II[J)I
def wX0_saved (x : Nat) (sh : List jH) (V : Nat → Nat → Int32) (R : Nat → Nat → Option Nat) (c : Nat) (n : Nat) (a2 : Int32) (a3 : Int32) (a4 : Nat) (Q : Int32 → List jH → (Nat → Nat → Int32) → (Nat → Nat → Option Nat) → Prop) : Prop :=
  ((wX1_saved x sh R V a2 a3 (fun r5 V5 => (∀ y9 : Int64, y9 = r5.toInt64 → (∃ f9 : Nat → Int64, sh[a4]? = some (jF (.inl (3, 1, .inr (.inl f9)))) ∧ jn ≤ a4 ∧ (∀ sh9 : List jH, sh9 = sh.set a4 (jF (.inl (3, 1, .inr (.inl (vp_updL f9 0 y9))))) → (jReg shX1 sh9 x ∧ Q (0 : Int32) sh9 V5 R))))) (fun _ _ => False)) ∨ (wX1_saved x sh R V a2 a3 (fun _ _ => False) (fun E9 Vx => ((E9 = "java/lang/IndexOutOfBoundsException" ∧ Q (1 : Int32) sh Vx R))) ∧ 1 ≤ c ∧ 6 ≤ n))
theorem mX0_saved {G : jG} {l : Launch} {d : Nat} (htr : l.stackTraces = false) (hdd : 106 ≤ d) {sh : List jH} {V : Nat → Nat → Int32} {R : Nat → Nat → Option Nat} {c : Nat} {n : Nat} {x : Nat} (hT : jReg shX1 sh x) {a2 : Int32} {a3 : Int32} {a4 : Nat} {Q : Int32 → List jH → (Nat → Nat → Int32) → (Nat → Nat → Option Nat) → Prop} (hw : wX0_saved x sh V R c n a2 a3 a4 Q) : JM G l MX0_saved d c n [.ref x, .int a2, .int a3, .ref a4] (mk sh V R) (jSr Q) jNo := by
  refine JM.introH (h9 := _) (t9 := _) (by decide) rfl htr (Nat.le_of_ble_eq_true rfl) ?_
  show J G l MX0_saved d c n 0 [(0, .ref x), (1, .int a2), (2, .int a3), (3, .ref a4)] [] (mk sh V R) _ _
  unfold wX0_saved at hw
  refine J.aload_n 3 dX0_saved_0 rfl ?_
  refine J.iconst (v := (0 : Int32)) dX0_saved_1 (by decide) ?_
  refine J.aload_n 0 dX0_saved_2 rfl ?_
  refine J.iload_n 1 dX0_saved_3 rfl ?_
  refine J.iload_n 2 dX0_saved_4 rfl ?_
  rcases hw with hw | hw
  rotate_left
  · refine uxX0_99 rfl htr hT dX0_saved_5 (by omega) (Nat.le_of_ble_eq_true rfl) hw.1 (Or.inr hw.2) ?_
    clear hw
    intro E9 Vx hw
    obtain ⟨rfl, hw⟩ := hw
    refine JX.catch2 (nm := "java/lang/IndexOutOfBoundsException") (tableOf []) (jent (0, 10, 13, 24)) (tableOf []) rfl (fun _ h => absurd h List.not_mem_nil) (by decide) (by decide) q1637 nw1670 dX0_saved_13 (by decide) ?_
    refine J.iconst (v := (1 : Int32)) dX0_saved_15 (by decide) ?_
    exact J.iret rfl dX0_saved_16 ⟨_, _, _, rfl, _, rfl, hw⟩
  refine uX0_99 rfl htr hT dX0_saved_5 (by omega) (Nat.le_of_ble_eq_true rfl) hw ?_
  clear hw
  intro r5 V5 hw
  refine J.i2l dX0_saved_8 ?_
  refine J.nmL hw ?_
  clear hw
  intro y9 hw
  obtain ⟨f9, hk9, hn9, hw⟩ := hw
  refine JV.last0 dX0_saved_9 hn9 hk9 ?_
  refine J.nms hw ?_
  clear hw
  intro sh9 hw
  clear hT
  obtain ⟨hT, hw⟩ := hw
  refine J.goto 17 dX0_saved_10 (by decide) ?_
  refine J.iconst (v := (0 : Int32)) dX0_saved_17 (by decide) ?_
  exact J.iret rfl dX0_saved_18 ⟨_, _, _, rfl, _, rfl, hw⟩
abbrev MX0_lend : jM := (yX0_lend, cX0_lend, 4, some .int, [(0, 9, 12, 24)])
theorem uX0_102 {G : jG} {l : Launch} {M : jM} {d c n pc : Nat} {lv : List (Nat × Value)} {rest : List Value} {post : Option Value → List jC → Prop} {xp : String → List jC → Prop} (hM : M.1.cls = RX0) (htr : l.stackTraces = false) {sh : List jH} {V : Nat → Nat → Int32} {R : Nat → Nat → Option Nat} {x : Nat} (hT : jReg shX1 sh x) {a1 : Int32} {Q : Int32 → (Nat → Nat → Int32) → Prop} (hd : decode M.2.1 pc = .ok (.invokevirtual 102, 3)) (hdd : 10 + 1 ≤ d) (hw8 : (rest.map fun v => v.category).sum ≤ 8) (hw : wX1_lend x V a1 Q (fun _ _ => False)) (kk : ∀ r V', Q r V' → J G l M d c n (pc + 3) lv (.int r :: rest) (mk sh V' R) post xp) : J G l M d c n pc lv (.int a1 :: .ref x :: rest) (mk sh V R) post xp := by
  exact J.callV (c' := 0) (n' := 0) (As := [.int a1]) (hcw := by rw [hM]; exact lw_V q1998 q1999 q2000 q144 q2001) (mX1_lend htr hT hw (Or.inl (fun _ _ h => h))) hd rfl ⟨0, _, _, mk_at (hT.at 0 rfl), rfl, rfl, fun _ => rfl⟩ ⟨rfl, by decide, by decide, by show _ = some 1; decide +kernel⟩ hw8 ⟨hdd, by decide⟩ jcc0 (fun r9 g9 h9 => by obtain ⟨V9, rfl, r, rfl, h⟩ := h9; exact kk r V9 h) (fun E9 g9 h9 => by obtain ⟨_, _, h⟩ := h9; exact h.elim)
theorem uxX0_102 {G : jG} {l : Launch} {M : jM} {d c n pc : Nat} {lv : List (Nat × Value)} {rest : List Value} {post : Option Value → List jC → Prop} {xp : String → List jC → Prop} (hM : M.1.cls = RX0) (htr : l.stackTraces = false) {sh : List jH} {V : Nat → Nat → Int32} {R : Nat → Nat → Option Nat} {x : Nat} (hT : jReg shX1 sh x) {a1 : Int32} {X : String → (Nat → Nat → Int32) → Prop} (hd : decode M.2.1 pc = .ok (.invokevirtual 102, 3)) (hdd : 10 + 1 ≤ d) (hw8 : (rest.map fun v => v.category).sum ≤ 8) (hw : wX1_lend x V a1 (fun _ _ => False) X) (hb : (∀ E V', ¬ X E V') ∨ 1 ≤ c ∧ 6 ≤ n) (kx : ∀ E V', X E V' → JX G l M d 0 0 pc lv E (mk sh V' R) post xp) : J G l M d c n pc lv (.int a1 :: .ref x :: rest) (mk sh V R) post xp := by
  exact J.callV (c := 0) (n := 0) (c' := c) (n' := n) (As := [.int a1]) (hcw := by rw [hM]; exact lw_V q1998 q1999 q2000 q144 q2001) (mX1_lend htr hT hw hb) hd rfl ⟨0, _, _, mk_at (hT.at 0 rfl), rfl, rfl, fun _ => rfl⟩ ⟨rfl, by decide, by decide, by show _ = some 1; decide +kernel⟩ hw8 ⟨hdd, by decide⟩ ⟨by omega, by omega⟩ (fun r9 g9 h9 => by obtain ⟨_, _, _, _, h⟩ := h9; exact h.elim) (fun E9 g9 h9 => by obtain ⟨V9, rfl, h⟩ := h9; exact kx E9 V9 h)
-- VisitingHoursLaw.lend(LVisitingHours;I[J)I
def wX0_lend (x : Nat) (sh : List jH) (V : Nat → Nat → Int32) (R : Nat → Nat → Option Nat) (c : Nat) (n : Nat) (a2 : Int32) (a3 : Nat) (Q : Int32 → List jH → (Nat → Nat → Int32) → (Nat → Nat → Option Nat) → Prop) : Prop :=
  ((wX1_lend x V a2 (fun r4 V4 => (∀ y8 : Int64, y8 = r4.toInt64 → (∃ f8 : Nat → Int64, sh[a3]? = some (jF (.inl (3, 1, .inr (.inl f8)))) ∧ jn ≤ a3 ∧ (∀ sh8 : List jH, sh8 = sh.set a3 (jF (.inl (3, 1, .inr (.inl (vp_updL f8 0 y8))))) → (jReg shX1 sh8 x ∧ Q (0 : Int32) sh8 V4 R))))) (fun _ _ => False)) ∨ (wX1_lend x V a2 (fun _ _ => False) (fun E9 Vx => ((E9 = "java/lang/IndexOutOfBoundsException" ∧ Q (1 : Int32) sh Vx R))) ∧ 1 ≤ c ∧ 6 ≤ n))
theorem mX0_lend {G : jG} {l : Launch} {d : Nat} (htr : l.stackTraces = false) (hdd : 11 ≤ d) {sh : List jH} {V : Nat → Nat → Int32} {R : Nat → Nat → Option Nat} {c : Nat} {n : Nat} {x : Nat} (hT : jReg shX1 sh x) {a2 : Int32} {a3 : Nat} {Q : Int32 → List jH → (Nat → Nat → Int32) → (Nat → Nat → Option Nat) → Prop} (hw : wX0_lend x sh V R c n a2 a3 Q) : JM G l MX0_lend d c n [.ref x, .int a2, .ref a3] (mk sh V R) (jSr Q) jNo := by
  refine JM.introH (h9 := _) (t9 := _) (by decide) rfl htr (Nat.le_of_ble_eq_true rfl) ?_
  show J G l MX0_lend d c n 0 [(0, .ref x), (1, .int a2), (2, .ref a3)] [] (mk sh V R) _ _
  unfold wX0_lend at hw
  refine J.aload_n 2 dX0_lend_0 rfl ?_
  refine J.iconst (v := (0 : Int32)) dX0_lend_1 (by decide) ?_
  refine J.aload_n 0 dX0_lend_2 rfl ?_
  refine J.iload_n 1 dX0_lend_3 rfl ?_
  rcases hw with hw | hw
  rotate_left
  · refine uxX0_102 rfl htr hT dX0_lend_4 (by omega) (Nat.le_of_ble_eq_true rfl) hw.1 (Or.inr hw.2) ?_
    clear hw
    intro E9 Vx hw
    obtain ⟨rfl, hw⟩ := hw
    refine JX.catch1 (nm := "java/lang/IndexOutOfBoundsException") (tableOf []) (jent (0, 9, 12, 24)) (tableOf []) rfl (fun _ h => absurd h List.not_mem_nil) (by decide) (by decide) q1637 nw1670 dX0_lend_12 (by decide) ?_
    refine J.iconst (v := (1 : Int32)) dX0_lend_13 (by decide) ?_
    exact J.iret rfl dX0_lend_14 ⟨_, _, _, rfl, _, rfl, hw⟩
  refine uX0_102 rfl htr hT dX0_lend_4 (by omega) (Nat.le_of_ble_eq_true rfl) hw ?_
  clear hw
  intro r4 V4 hw
  refine J.i2l dX0_lend_7 ?_
  refine J.nmL hw ?_
  clear hw
  intro y8 hw
  obtain ⟨f8, hk8, hn8, hw⟩ := hw
  refine JV.last0 dX0_lend_8 hn8 hk8 ?_
  refine J.nms hw ?_
  clear hw
  intro sh8 hw
  clear hT
  obtain ⟨hT, hw⟩ := hw
  refine J.goto 15 dX0_lend_9 (by decide) ?_
  refine J.iconst (v := (0 : Int32)) dX0_lend_15 (by decide) ?_
  exact J.iret rfl dX0_lend_16 ⟨_, _, _, rfl, _, rfl, hw⟩
abbrev MX0_odds : jM := (yX0_odds, cX0_odds, 5, some .int, [(0, 10, 13, 13)])
theorem uX0_105 {G : jG} {l : Launch} {M : jM} {d c n pc : Nat} {lv : List (Nat × Value)} {rest : List Value} {post : Option Value → List jC → Prop} {xp : String → List jC → Prop} (hM : M.1.cls = RX0) (htr : l.stackTraces = false) {sh : List jH} {V : Nat → Nat → Int32} {R : Nat → Nat → Option Nat} {x : Nat} (hT : jReg shX1 sh x) {a1 : Int32} {a2 : Int32} {Q : Int32 → Prop} (hd : decode M.2.1 pc = .ok (.invokevirtual 105, 3)) (hdd : 9 + 1 ≤ d) (hw8 : (rest.map fun v => v.category).sum ≤ 8) (hw : wX1_odds x V a1 a2 Q (fun _ => False)) (kk : ∀ r, Q r → J G l M d c n (pc + 3) lv (.int r :: rest) (mk sh V R) post xp) : J G l M d c n pc lv (.int a2 :: .int a1 :: .ref x :: rest) (mk sh V R) post xp := by
  exact J.callV (c' := 0) (n' := 0) (As := [.int a1, .int a2]) (hcw := by rw [hM]; exact lw_V q2016 q2017 q2018 q144 q2019) (mX1_odds htr hT hw (Or.inl (fun _ h => h))) hd rfl ⟨0, _, _, mk_at (hT.at 0 rfl), rfl, rfl, fun _ => rfl⟩ ⟨rfl, by decide, by decide, by show _ = some 2; decide +kernel⟩ hw8 ⟨hdd, by decide⟩ jcc0 (fun r9 g9 h9 => by obtain ⟨rfl, r, rfl, h⟩ := h9; exact kk r h) (fun E9 g9 h9 => by obtain ⟨_, h⟩ := h9; exact h.elim)
theorem uxX0_105 {G : jG} {l : Launch} {M : jM} {d c n pc : Nat} {lv : List (Nat × Value)} {rest : List Value} {post : Option Value → List jC → Prop} {xp : String → List jC → Prop} (hM : M.1.cls = RX0) (htr : l.stackTraces = false) {sh : List jH} {V : Nat → Nat → Int32} {R : Nat → Nat → Option Nat} {x : Nat} (hT : jReg shX1 sh x) {a1 : Int32} {a2 : Int32} {X : String → Prop} (hd : decode M.2.1 pc = .ok (.invokevirtual 105, 3)) (hdd : 9 + 1 ≤ d) (hw8 : (rest.map fun v => v.category).sum ≤ 8) (hw : wX1_odds x V a1 a2 (fun _ => False) X) (hb : (∀ E, ¬ X E) ∨ 1 ≤ c ∧ 6 ≤ n) (kx : ∀ E, X E → JX G l M d 0 0 pc lv E (mk sh V R) post xp) : J G l M d c n pc lv (.int a2 :: .int a1 :: .ref x :: rest) (mk sh V R) post xp := by
  exact J.callV (c := 0) (n := 0) (c' := c) (n' := n) (As := [.int a1, .int a2]) (hcw := by rw [hM]; exact lw_V q2016 q2017 q2018 q144 q2019) (mX1_odds htr hT hw hb) hd rfl ⟨0, _, _, mk_at (hT.at 0 rfl), rfl, rfl, fun _ => rfl⟩ ⟨rfl, by decide, by decide, by show _ = some 2; decide +kernel⟩ hw8 ⟨hdd, by decide⟩ ⟨by omega, by omega⟩ (fun r9 g9 h9 => by obtain ⟨_, _, _, h⟩ := h9; exact h.elim) (fun E9 g9 h9 => by obtain ⟨rfl, h⟩ := h9; exact kx E9 h)
-- VisitingHoursLaw.odds(LVisitingHours;II[J)I
def wX0_odds (x : Nat) (sh : List jH) (V : Nat → Nat → Int32) (R : Nat → Nat → Option Nat) (c : Nat) (n : Nat) (a2 : Int32) (a3 : Int32) (a4 : Nat) (Q : Int32 → List jH → (Nat → Nat → Int32) → (Nat → Nat → Option Nat) → Prop) : Prop :=
  ((wX1_odds x V a2 a3 (fun r5 => (∀ y9 : Int64, y9 = r5.toInt64 → (∃ f9 : Nat → Int64, sh[a4]? = some (jF (.inl (3, 1, .inr (.inl f9)))) ∧ jn ≤ a4 ∧ (∀ sh9 : List jH, sh9 = sh.set a4 (jF (.inl (3, 1, .inr (.inl (vp_updL f9 0 y9))))) → (jReg shX1 sh9 x ∧ Q (0 : Int32) sh9 V R))))) (fun _ => False)) ∨ (wX1_odds x V a2 a3 (fun _ => False) (fun E9 => ((E9 = "java/lang/IllegalArgumentException" ∧ Q (1 : Int32) sh V R))) ∧ 1 ≤ c ∧ 6 ≤ n))
theorem mX0_odds {G : jG} {l : Launch} {d : Nat} (htr : l.stackTraces = false) (hdd : 10 ≤ d) {sh : List jH} {V : Nat → Nat → Int32} {R : Nat → Nat → Option Nat} {c : Nat} {n : Nat} {x : Nat} (hT : jReg shX1 sh x) {a2 : Int32} {a3 : Int32} {a4 : Nat} {Q : Int32 → List jH → (Nat → Nat → Int32) → (Nat → Nat → Option Nat) → Prop} (hw : wX0_odds x sh V R c n a2 a3 a4 Q) : JM G l MX0_odds d c n [.ref x, .int a2, .int a3, .ref a4] (mk sh V R) (jSr Q) jNo := by
  refine JM.introH (h9 := _) (t9 := _) (by decide) rfl htr (Nat.le_of_ble_eq_true rfl) ?_
  show J G l MX0_odds d c n 0 [(0, .ref x), (1, .int a2), (2, .int a3), (3, .ref a4)] [] (mk sh V R) _ _
  unfold wX0_odds at hw
  refine J.aload_n 3 dX0_odds_0 rfl ?_
  refine J.iconst (v := (0 : Int32)) dX0_odds_1 (by decide) ?_
  refine J.aload_n 0 dX0_odds_2 rfl ?_
  refine J.iload_n 1 dX0_odds_3 rfl ?_
  refine J.iload_n 2 dX0_odds_4 rfl ?_
  rcases hw with hw | hw
  rotate_left
  · refine uxX0_105 rfl htr hT dX0_odds_5 (by omega) (Nat.le_of_ble_eq_true rfl) hw.1 (Or.inr hw.2) ?_
    clear hw
    intro E9 hw
    obtain ⟨rfl, hw⟩ := hw
    refine JX.catch2 (nm := "java/lang/IllegalArgumentException") (tableOf []) (jent (0, 10, 13, 13)) (tableOf []) rfl (fun _ h => absurd h List.not_mem_nil) (by decide) (by decide) q807 nw1003 dX0_odds_13 (by decide) ?_
    refine J.iconst (v := (1 : Int32)) dX0_odds_15 (by decide) ?_
    exact J.iret rfl dX0_odds_16 ⟨_, _, _, rfl, _, rfl, hw⟩
  refine uX0_105 rfl htr hT dX0_odds_5 (by omega) (Nat.le_of_ble_eq_true rfl) hw ?_
  clear hw
  intro r5 hw
  refine J.i2l dX0_odds_8 ?_
  refine J.nmL hw ?_
  clear hw
  intro y9 hw
  obtain ⟨f9, hk9, hn9, hw⟩ := hw
  refine JV.last0 dX0_odds_9 hn9 hk9 ?_
  refine J.nms hw ?_
  clear hw
  intro sh9 hw
  clear hT
  obtain ⟨hT, hw⟩ := hw
  refine J.goto 17 dX0_odds_10 (by decide) ?_
  refine J.iconst (v := (0 : Int32)) dX0_odds_17 (by decide) ?_
  exact J.iret rfl dX0_odds_18 ⟨_, _, _, rfl, _, rfl, hw⟩
abbrev MX0_waits : jM := (yX0_waits, cX0_waits, 5, some .int, [(0, 10, 13, 24), (0, 10, 17, 13)])
theorem uX0_108 {G : jG} {l : Launch} {M : jM} {d c n pc : Nat} {lv : List (Nat × Value)} {rest : List Value} {post : Option Value → List jC → Prop} {xp : String → List jC → Prop} (hM : M.1.cls = RX0) (htr : l.stackTraces = false) {sh : List jH} {V : Nat → Nat → Int32} {R : Nat → Nat → Option Nat} {x : Nat} (hT : jReg shX1 sh x) {a1 : Int32} {a2 : Int32} {Q : Int32 → Prop} (hd : decode M.2.1 pc = .ok (.invokevirtual 108, 3)) (hdd : 10 + 1 ≤ d) (hw8 : (rest.map fun v => v.category).sum ≤ 8) (hw : wX1_waits x V a1 a2 Q (fun _ => False)) (kk : ∀ r, Q r → J G l M d c n (pc + 3) lv (.int r :: rest) (mk sh V R) post xp) : J G l M d c n pc lv (.int a2 :: .int a1 :: .ref x :: rest) (mk sh V R) post xp := by
  exact J.callV (c' := 0) (n' := 0) (As := [.int a1, .int a2]) (hcw := by rw [hM]; exact lw_V q2025 q2026 q2027 q144 q2028) (mX1_waits htr hT hw (Or.inl (fun _ h => h))) hd rfl ⟨0, _, _, mk_at (hT.at 0 rfl), rfl, rfl, fun _ => rfl⟩ ⟨rfl, by decide, by decide, by show _ = some 2; decide +kernel⟩ hw8 ⟨hdd, by decide⟩ jcc0 (fun r9 g9 h9 => by obtain ⟨rfl, r, rfl, h⟩ := h9; exact kk r h) (fun E9 g9 h9 => by obtain ⟨_, h⟩ := h9; exact h.elim)
theorem uxX0_108 {G : jG} {l : Launch} {M : jM} {d c n pc : Nat} {lv : List (Nat × Value)} {rest : List Value} {post : Option Value → List jC → Prop} {xp : String → List jC → Prop} (hM : M.1.cls = RX0) (htr : l.stackTraces = false) {sh : List jH} {V : Nat → Nat → Int32} {R : Nat → Nat → Option Nat} {x : Nat} (hT : jReg shX1 sh x) {a1 : Int32} {a2 : Int32} {X : String → Prop} (hd : decode M.2.1 pc = .ok (.invokevirtual 108, 3)) (hdd : 10 + 1 ≤ d) (hw8 : (rest.map fun v => v.category).sum ≤ 8) (hw : wX1_waits x V a1 a2 (fun _ => False) X) (hb : (∀ E, ¬ X E) ∨ 1 ≤ c ∧ 6 ≤ n) (kx : ∀ E, X E → JX G l M d 0 0 pc lv E (mk sh V R) post xp) : J G l M d c n pc lv (.int a2 :: .int a1 :: .ref x :: rest) (mk sh V R) post xp := by
  exact J.callV (c := 0) (n := 0) (c' := c) (n' := n) (As := [.int a1, .int a2]) (hcw := by rw [hM]; exact lw_V q2025 q2026 q2027 q144 q2028) (mX1_waits htr hT hw hb) hd rfl ⟨0, _, _, mk_at (hT.at 0 rfl), rfl, rfl, fun _ => rfl⟩ ⟨rfl, by decide, by decide, by show _ = some 2; decide +kernel⟩ hw8 ⟨hdd, by decide⟩ ⟨by omega, by omega⟩ (fun r9 g9 h9 => by obtain ⟨_, _, _, h⟩ := h9; exact h.elim) (fun E9 g9 h9 => by obtain ⟨rfl, h⟩ := h9; exact kx E9 h)
-- VisitingHoursLaw.waits(LVisitingHours;II[J)I
def wX0_waits (x : Nat) (sh : List jH) (V : Nat → Nat → Int32) (R : Nat → Nat → Option Nat) (c : Nat) (n : Nat) (a2 : Int32) (a3 : Int32) (a4 : Nat) (Q : Int32 → List jH → (Nat → Nat → Int32) → (Nat → Nat → Option Nat) → Prop) : Prop :=
  ((wX1_waits x V a2 a3 (fun r5 => (∀ y9 : Int64, y9 = r5.toInt64 → (∃ f9 : Nat → Int64, sh[a4]? = some (jF (.inl (3, 1, .inr (.inl f9)))) ∧ jn ≤ a4 ∧ (∀ sh9 : List jH, sh9 = sh.set a4 (jF (.inl (3, 1, .inr (.inl (vp_updL f9 0 y9))))) → (jReg shX1 sh9 x ∧ Q (0 : Int32) sh9 V R))))) (fun _ => False)) ∨ (wX1_waits x V a2 a3 (fun _ => False) (fun E9 => ((E9 = "java/lang/IndexOutOfBoundsException" ∧ Q (1 : Int32) sh V R) ∨ (E9 = "java/lang/IllegalArgumentException" ∧ Q (2 : Int32) sh V R))) ∧ 1 ≤ c ∧ 6 ≤ n))
theorem mX0_waits {G : jG} {l : Launch} {d : Nat} (htr : l.stackTraces = false) (hdd : 11 ≤ d) {sh : List jH} {V : Nat → Nat → Int32} {R : Nat → Nat → Option Nat} {c : Nat} {n : Nat} {x : Nat} (hT : jReg shX1 sh x) {a2 : Int32} {a3 : Int32} {a4 : Nat} {Q : Int32 → List jH → (Nat → Nat → Int32) → (Nat → Nat → Option Nat) → Prop} (hw : wX0_waits x sh V R c n a2 a3 a4 Q) : JM G l MX0_waits d c n [.ref x, .int a2, .int a3, .ref a4] (mk sh V R) (jSr Q) jNo := by
  refine JM.introH (h9 := _) (t9 := _) (by decide) rfl htr (Nat.le_of_ble_eq_true rfl) ?_
  show J G l MX0_waits d c n 0 [(0, .ref x), (1, .int a2), (2, .int a3), (3, .ref a4)] [] (mk sh V R) _ _
  unfold wX0_waits at hw
  refine J.aload_n 3 dX0_waits_0 rfl ?_
  refine J.iconst (v := (0 : Int32)) dX0_waits_1 (by decide) ?_
  refine J.aload_n 0 dX0_waits_2 rfl ?_
  refine J.iload_n 1 dX0_waits_3 rfl ?_
  refine J.iload_n 2 dX0_waits_4 rfl ?_
  rcases hw with hw | hw
  rotate_left
  · refine uxX0_108 rfl htr hT dX0_waits_5 (by omega) (Nat.le_of_ble_eq_true rfl) hw.1 (Or.inr hw.2) ?_
    clear hw
    intro E9 hw
    rcases hw with ⟨rfl, hw⟩ | ⟨rfl, hw⟩
    · refine JX.catch2 (nm := "java/lang/IndexOutOfBoundsException") (tableOf []) (jent (0, 10, 13, 24)) (tableOf [(0, 10, 17, 13)]) rfl (fun _ h => absurd h List.not_mem_nil) (by decide) (by decide) q1637 nw1670 dX0_waits_13 (by decide) ?_
      refine J.iconst (v := (1 : Int32)) dX0_waits_15 (by decide) ?_
      exact J.iret rfl dX0_waits_16 ⟨_, _, _, rfl, _, rfl, hw⟩
    · refine JX.catch2 (nm := "java/lang/IllegalArgumentException") (tableOf [(0, 10, 13, 24)]) (jent (0, 10, 17, 13)) (tableOf []) rfl (List.forall_mem_cons.mpr ⟨Or.inr ⟨by decide, "java/lang/IndexOutOfBoundsException", q1637, List.mem_of_getElem? (i := 0) rfl⟩, (fun _ h => absurd h List.not_mem_nil)⟩) (by decide) (by decide) q807 nw1003 dX0_waits_17 (by decide) ?_
      refine J.iconst (v := (2 : Int32)) dX0_waits_19 (by decide) ?_
      exact J.iret rfl dX0_waits_20 ⟨_, _, _, rfl, _, rfl, hw⟩
  refine uX0_108 rfl htr hT dX0_waits_5 (by omega) (Nat.le_of_ble_eq_true rfl) hw ?_
  clear hw
  intro r5 hw
  refine J.i2l dX0_waits_8 ?_
  refine J.nmL hw ?_
  clear hw
  intro y9 hw
  obtain ⟨f9, hk9, hn9, hw⟩ := hw
  refine JV.last0 dX0_waits_9 hn9 hk9 ?_
  refine J.nms hw ?_
  clear hw
  intro sh9 hw
  clear hT
  obtain ⟨hT, hw⟩ := hw
  refine J.goto 21 dX0_waits_10 (by decide) ?_
  refine J.iconst (v := (0 : Int32)) dX0_waits_21 (by decide) ?_
  exact J.iret rfl dX0_waits_22 ⟨_, _, _, rfl, _, rfl, hw⟩
abbrev MX0_treaty : jM := (yX0_treaty, cX0_treaty, 5, some .int, [(0, 10, 13, 24), (0, 10, 17, 13)])
theorem uX0_111 {G : jG} {l : Launch} {M : jM} {d c n pc : Nat} {lv : List (Nat × Value)} {rest : List Value} {post : Option Value → List jC → Prop} {xp : String → List jC → Prop} (hM : M.1.cls = RX0) (htr : l.stackTraces = false) {sh : List jH} {V : Nat → Nat → Int32} {R : Nat → Nat → Option Nat} {x : Nat} (hT : jReg shX1 sh x) {a1 : Int32} {a2 : Int32} {Q : Int32 → Prop} (hd : decode M.2.1 pc = .ok (.invokevirtual 111, 3)) (hdd : 11 + 1 ≤ d) (hw8 : (rest.map fun v => v.category).sum ≤ 8) (hw : wX1_treaty x V a1 a2 Q (fun _ => False)) (kk : ∀ r, Q r → J G l M d c n (pc + 3) lv (.int r :: rest) (mk sh V R) post xp) : J G l M d c n pc lv (.int a2 :: .int a1 :: .ref x :: rest) (mk sh V R) post xp := by
  exact J.callV (c' := 0) (n' := 0) (As := [.int a1, .int a2]) (hcw := by rw [hM]; exact lw_V q2036 q2037 q2038 q144 q2039) (mX1_treaty htr hT hw (Or.inl (fun _ h => h))) hd rfl ⟨0, _, _, mk_at (hT.at 0 rfl), rfl, rfl, fun _ => rfl⟩ ⟨rfl, by decide, by decide, by show _ = some 2; decide +kernel⟩ hw8 ⟨hdd, by decide⟩ jcc0 (fun r9 g9 h9 => by obtain ⟨rfl, r, rfl, h⟩ := h9; exact kk r h) (fun E9 g9 h9 => by obtain ⟨_, h⟩ := h9; exact h.elim)
theorem uxX0_111 {G : jG} {l : Launch} {M : jM} {d c n pc : Nat} {lv : List (Nat × Value)} {rest : List Value} {post : Option Value → List jC → Prop} {xp : String → List jC → Prop} (hM : M.1.cls = RX0) (htr : l.stackTraces = false) {sh : List jH} {V : Nat → Nat → Int32} {R : Nat → Nat → Option Nat} {x : Nat} (hT : jReg shX1 sh x) {a1 : Int32} {a2 : Int32} {X : String → Prop} (hd : decode M.2.1 pc = .ok (.invokevirtual 111, 3)) (hdd : 11 + 1 ≤ d) (hw8 : (rest.map fun v => v.category).sum ≤ 8) (hw : wX1_treaty x V a1 a2 (fun _ => False) X) (hb : (∀ E, ¬ X E) ∨ 1 ≤ c ∧ 6 ≤ n) (kx : ∀ E, X E → JX G l M d 0 0 pc lv E (mk sh V R) post xp) : J G l M d c n pc lv (.int a2 :: .int a1 :: .ref x :: rest) (mk sh V R) post xp := by
  exact J.callV (c := 0) (n := 0) (c' := c) (n' := n) (As := [.int a1, .int a2]) (hcw := by rw [hM]; exact lw_V q2036 q2037 q2038 q144 q2039) (mX1_treaty htr hT hw hb) hd rfl ⟨0, _, _, mk_at (hT.at 0 rfl), rfl, rfl, fun _ => rfl⟩ ⟨rfl, by decide, by decide, by show _ = some 2; decide +kernel⟩ hw8 ⟨hdd, by decide⟩ ⟨by omega, by omega⟩ (fun r9 g9 h9 => by obtain ⟨_, _, _, h⟩ := h9; exact h.elim) (fun E9 g9 h9 => by obtain ⟨rfl, h⟩ := h9; exact kx E9 h)
-- VisitingHoursLaw.treaty(LVisitingHours;II[J)I
def wX0_treaty (x : Nat) (sh : List jH) (V : Nat → Nat → Int32) (R : Nat → Nat → Option Nat) (c : Nat) (n : Nat) (a2 : Int32) (a3 : Int32) (a4 : Nat) (Q : Int32 → List jH → (Nat → Nat → Int32) → (Nat → Nat → Option Nat) → Prop) : Prop :=
  ((wX1_treaty x V a2 a3 (fun r5 => (∀ y9 : Int64, y9 = r5.toInt64 → (∃ f9 : Nat → Int64, sh[a4]? = some (jF (.inl (3, 1, .inr (.inl f9)))) ∧ jn ≤ a4 ∧ (∀ sh9 : List jH, sh9 = sh.set a4 (jF (.inl (3, 1, .inr (.inl (vp_updL f9 0 y9))))) → (jReg shX1 sh9 x ∧ Q (0 : Int32) sh9 V R))))) (fun _ => False)) ∨ (wX1_treaty x V a2 a3 (fun _ => False) (fun E9 => ((E9 = "java/lang/IndexOutOfBoundsException" ∧ Q (1 : Int32) sh V R) ∨ (E9 = "java/lang/IllegalArgumentException" ∧ Q (2 : Int32) sh V R))) ∧ 1 ≤ c ∧ 6 ≤ n))
theorem mX0_treaty {G : jG} {l : Launch} {d : Nat} (htr : l.stackTraces = false) (hdd : 12 ≤ d) {sh : List jH} {V : Nat → Nat → Int32} {R : Nat → Nat → Option Nat} {c : Nat} {n : Nat} {x : Nat} (hT : jReg shX1 sh x) {a2 : Int32} {a3 : Int32} {a4 : Nat} {Q : Int32 → List jH → (Nat → Nat → Int32) → (Nat → Nat → Option Nat) → Prop} (hw : wX0_treaty x sh V R c n a2 a3 a4 Q) : JM G l MX0_treaty d c n [.ref x, .int a2, .int a3, .ref a4] (mk sh V R) (jSr Q) jNo := by
  refine JM.introH (h9 := _) (t9 := _) (by decide) rfl htr (Nat.le_of_ble_eq_true rfl) ?_
  show J G l MX0_treaty d c n 0 [(0, .ref x), (1, .int a2), (2, .int a3), (3, .ref a4)] [] (mk sh V R) _ _
  unfold wX0_treaty at hw
  refine J.aload_n 3 dX0_treaty_0 rfl ?_
  refine J.iconst (v := (0 : Int32)) dX0_treaty_1 (by decide) ?_
  refine J.aload_n 0 dX0_treaty_2 rfl ?_
  refine J.iload_n 1 dX0_treaty_3 rfl ?_
  refine J.iload_n 2 dX0_treaty_4 rfl ?_
  rcases hw with hw | hw
  rotate_left
  · refine uxX0_111 rfl htr hT dX0_treaty_5 (by omega) (Nat.le_of_ble_eq_true rfl) hw.1 (Or.inr hw.2) ?_
    clear hw
    intro E9 hw
    rcases hw with ⟨rfl, hw⟩ | ⟨rfl, hw⟩
    · refine JX.catch2 (nm := "java/lang/IndexOutOfBoundsException") (tableOf []) (jent (0, 10, 13, 24)) (tableOf [(0, 10, 17, 13)]) rfl (fun _ h => absurd h List.not_mem_nil) (by decide) (by decide) q1637 nw1670 dX0_treaty_13 (by decide) ?_
      refine J.iconst (v := (1 : Int32)) dX0_treaty_15 (by decide) ?_
      exact J.iret rfl dX0_treaty_16 ⟨_, _, _, rfl, _, rfl, hw⟩
    · refine JX.catch2 (nm := "java/lang/IllegalArgumentException") (tableOf [(0, 10, 13, 24)]) (jent (0, 10, 17, 13)) (tableOf []) rfl (List.forall_mem_cons.mpr ⟨Or.inr ⟨by decide, "java/lang/IndexOutOfBoundsException", q1637, List.mem_of_getElem? (i := 0) rfl⟩, (fun _ h => absurd h List.not_mem_nil)⟩) (by decide) (by decide) q807 nw1003 dX0_treaty_17 (by decide) ?_
      refine J.iconst (v := (2 : Int32)) dX0_treaty_19 (by decide) ?_
      exact J.iret rfl dX0_treaty_20 ⟨_, _, _, rfl, _, rfl, hw⟩
  refine uX0_111 rfl htr hT dX0_treaty_5 (by omega) (Nat.le_of_ble_eq_true rfl) hw ?_
  clear hw
  intro r5 hw
  refine J.i2l dX0_treaty_8 ?_
  refine J.nmL hw ?_
  clear hw
  intro y9 hw
  obtain ⟨f9, hk9, hn9, hw⟩ := hw
  refine JV.last0 dX0_treaty_9 hn9 hk9 ?_
  refine J.nms hw ?_
  clear hw
  intro sh9 hw
  clear hT
  obtain ⟨hT, hw⟩ := hw
  refine J.goto 21 dX0_treaty_10 (by decide) ?_
  refine J.iconst (v := (0 : Int32)) dX0_treaty_21 (by decide) ?_
  exact J.iret rfl dX0_treaty_22 ⟨_, _, _, rfl, _, rfl, hw⟩
abbrev MX0_rests : jM := (yX0_rests, cX0_rests, 5, some .int, [(0, 10, 13, 24)])
theorem uX0_114 {G : jG} {l : Launch} {M : jM} {d c n pc : Nat} {lv : List (Nat × Value)} {rest : List Value} {post : Option Value → List jC → Prop} {xp : String → List jC → Prop} (hM : M.1.cls = RX0) (htr : l.stackTraces = false) {sh : List jH} {V : Nat → Nat → Int32} {R : Nat → Nat → Option Nat} {x : Nat} (hT : jReg shX1 sh x) {a1 : Int32} {a2 : Int32} {Q : Int32 → Prop} (hd : decode M.2.1 pc = .ok (.invokevirtual 114, 3)) (hdd : 10 + 1 ≤ d) (hw8 : (rest.map fun v => v.category).sum ≤ 8) (hw : wX1_rests x V a1 a2 Q (fun _ => False)) (kk : ∀ r, Q r → J G l M d c n (pc + 3) lv (.int r :: rest) (mk sh V R) post xp) : J G l M d c n pc lv (.int a2 :: .int a1 :: .ref x :: rest) (mk sh V R) post xp := by
  exact J.callV (c' := 0) (n' := 0) (As := [.int a1, .int a2]) (hcw := by rw [hM]; exact lw_V q2047 q2048 q2049 q144 q2050) (mX1_rests htr hT hw (Or.inl (fun _ h => h))) hd rfl ⟨0, _, _, mk_at (hT.at 0 rfl), rfl, rfl, fun _ => rfl⟩ ⟨rfl, by decide, by decide, by show _ = some 2; decide +kernel⟩ hw8 ⟨hdd, by decide⟩ jcc0 (fun r9 g9 h9 => by obtain ⟨rfl, r, rfl, h⟩ := h9; exact kk r h) (fun E9 g9 h9 => by obtain ⟨_, h⟩ := h9; exact h.elim)
theorem uxX0_114 {G : jG} {l : Launch} {M : jM} {d c n pc : Nat} {lv : List (Nat × Value)} {rest : List Value} {post : Option Value → List jC → Prop} {xp : String → List jC → Prop} (hM : M.1.cls = RX0) (htr : l.stackTraces = false) {sh : List jH} {V : Nat → Nat → Int32} {R : Nat → Nat → Option Nat} {x : Nat} (hT : jReg shX1 sh x) {a1 : Int32} {a2 : Int32} {X : String → Prop} (hd : decode M.2.1 pc = .ok (.invokevirtual 114, 3)) (hdd : 10 + 1 ≤ d) (hw8 : (rest.map fun v => v.category).sum ≤ 8) (hw : wX1_rests x V a1 a2 (fun _ => False) X) (hb : (∀ E, ¬ X E) ∨ 1 ≤ c ∧ 6 ≤ n) (kx : ∀ E, X E → JX G l M d 0 0 pc lv E (mk sh V R) post xp) : J G l M d c n pc lv (.int a2 :: .int a1 :: .ref x :: rest) (mk sh V R) post xp := by
  exact J.callV (c := 0) (n := 0) (c' := c) (n' := n) (As := [.int a1, .int a2]) (hcw := by rw [hM]; exact lw_V q2047 q2048 q2049 q144 q2050) (mX1_rests htr hT hw hb) hd rfl ⟨0, _, _, mk_at (hT.at 0 rfl), rfl, rfl, fun _ => rfl⟩ ⟨rfl, by decide, by decide, by show _ = some 2; decide +kernel⟩ hw8 ⟨hdd, by decide⟩ ⟨by omega, by omega⟩ (fun r9 g9 h9 => by obtain ⟨_, _, _, h⟩ := h9; exact h.elim) (fun E9 g9 h9 => by obtain ⟨rfl, h⟩ := h9; exact kx E9 h)
-- VisitingHoursLaw.rests(LVisitingHours;II[J)I
def wX0_rests (x : Nat) (sh : List jH) (V : Nat → Nat → Int32) (R : Nat → Nat → Option Nat) (c : Nat) (n : Nat) (a2 : Int32) (a3 : Int32) (a4 : Nat) (Q : Int32 → List jH → (Nat → Nat → Int32) → (Nat → Nat → Option Nat) → Prop) : Prop :=
  ((wX1_rests x V a2 a3 (fun r5 => (∀ y9 : Int64, y9 = r5.toInt64 → (∃ f9 : Nat → Int64, sh[a4]? = some (jF (.inl (3, 1, .inr (.inl f9)))) ∧ jn ≤ a4 ∧ (∀ sh9 : List jH, sh9 = sh.set a4 (jF (.inl (3, 1, .inr (.inl (vp_updL f9 0 y9))))) → (jReg shX1 sh9 x ∧ Q (0 : Int32) sh9 V R))))) (fun _ => False)) ∨ (wX1_rests x V a2 a3 (fun _ => False) (fun E9 => ((E9 = "java/lang/IndexOutOfBoundsException" ∧ Q (1 : Int32) sh V R))) ∧ 1 ≤ c ∧ 6 ≤ n))
theorem mX0_rests {G : jG} {l : Launch} {d : Nat} (htr : l.stackTraces = false) (hdd : 11 ≤ d) {sh : List jH} {V : Nat → Nat → Int32} {R : Nat → Nat → Option Nat} {c : Nat} {n : Nat} {x : Nat} (hT : jReg shX1 sh x) {a2 : Int32} {a3 : Int32} {a4 : Nat} {Q : Int32 → List jH → (Nat → Nat → Int32) → (Nat → Nat → Option Nat) → Prop} (hw : wX0_rests x sh V R c n a2 a3 a4 Q) : JM G l MX0_rests d c n [.ref x, .int a2, .int a3, .ref a4] (mk sh V R) (jSr Q) jNo := by
  refine JM.introH (h9 := _) (t9 := _) (by decide) rfl htr (Nat.le_of_ble_eq_true rfl) ?_
  show J G l MX0_rests d c n 0 [(0, .ref x), (1, .int a2), (2, .int a3), (3, .ref a4)] [] (mk sh V R) _ _
  unfold wX0_rests at hw
  refine J.aload_n 3 dX0_rests_0 rfl ?_
  refine J.iconst (v := (0 : Int32)) dX0_rests_1 (by decide) ?_
  refine J.aload_n 0 dX0_rests_2 rfl ?_
  refine J.iload_n 1 dX0_rests_3 rfl ?_
  refine J.iload_n 2 dX0_rests_4 rfl ?_
  rcases hw with hw | hw
  rotate_left
  · refine uxX0_114 rfl htr hT dX0_rests_5 (by omega) (Nat.le_of_ble_eq_true rfl) hw.1 (Or.inr hw.2) ?_
    clear hw
    intro E9 hw
    obtain ⟨rfl, hw⟩ := hw
    refine JX.catch2 (nm := "java/lang/IndexOutOfBoundsException") (tableOf []) (jent (0, 10, 13, 24)) (tableOf []) rfl (fun _ h => absurd h List.not_mem_nil) (by decide) (by decide) q1637 nw1670 dX0_rests_13 (by decide) ?_
    refine J.iconst (v := (1 : Int32)) dX0_rests_15 (by decide) ?_
    exact J.iret rfl dX0_rests_16 ⟨_, _, _, rfl, _, rfl, hw⟩
  refine uX0_114 rfl htr hT dX0_rests_5 (by omega) (Nat.le_of_ble_eq_true rfl) hw ?_
  clear hw
  intro r5 hw
  refine J.i2l dX0_rests_8 ?_
  refine J.nmL hw ?_
  clear hw
  intro y9 hw
  obtain ⟨f9, hk9, hn9, hw⟩ := hw
  refine JV.last0 dX0_rests_9 hn9 hk9 ?_
  refine J.nms hw ?_
  clear hw
  intro sh9 hw
  clear hT
  obtain ⟨hT, hw⟩ := hw
  refine J.goto 17 dX0_rests_10 (by decide) ?_
  refine J.iconst (v := (0 : Int32)) dX0_rests_17 (by decide) ?_
  exact J.iret rfl dX0_rests_18 ⟨_, _, _, rfl, _, rfl, hw⟩
abbrev MX0_settle : jM := (yX0_settle, cX0_settle, 4, some .int, [(0, 9, 12, 24)])
theorem uX0_117 {G : jG} {l : Launch} {M : jM} {d c n pc : Nat} {lv : List (Nat × Value)} {rest : List Value} {post : Option Value → List jC → Prop} {xp : String → List jC → Prop} (hM : M.1.cls = RX0) (htr : l.stackTraces = false) {sh : List jH} {V : Nat → Nat → Int32} {R : Nat → Nat → Option Nat} {x : Nat} (hT : jReg shX1 sh x) {a1 : Int32} {Q : Int32 → (Nat → Nat → Int32) → (Nat → Nat → Option Nat) → Prop} (hd : decode M.2.1 pc = .ok (.invokevirtual 117, 3)) (hdd : 46 + 1 ≤ d) (hw8 : (rest.map fun v => v.category).sum ≤ 8) (hw : wX1_settle x sh V R a1 Q (fun _ _ _ => False)) (kk : ∀ r V' R', Q r V' R' → J G l M d c n (pc + 3) lv (.int r :: rest) (mk sh V' R') post xp) : J G l M d c n pc lv (.int a1 :: .ref x :: rest) (mk sh V R) post xp := by
  exact J.callV (c' := 0) (n' := 0) (As := [.int a1]) (hcw := by rw [hM]; exact lw_V q2061 q2062 q2063 q144 q2064) (mX1_settle htr (Nat.le_refl _) hT hw (Or.inl (fun _ _ _ h => h))) hd rfl ⟨0, _, _, mk_at (hT.at 0 rfl), rfl, rfl, fun _ => rfl⟩ ⟨rfl, by decide, by decide, by show _ = some 1; decide +kernel⟩ hw8 ⟨hdd, by decide⟩ jcc0 (fun r9 g9 h9 => by obtain ⟨V9, R9, rfl, r, rfl, h⟩ := h9; exact kk r V9 R9 h) (fun E9 g9 h9 => by obtain ⟨_, _, _, h⟩ := h9; exact h.elim)
theorem uxX0_117 {G : jG} {l : Launch} {M : jM} {d c n pc : Nat} {lv : List (Nat × Value)} {rest : List Value} {post : Option Value → List jC → Prop} {xp : String → List jC → Prop} (hM : M.1.cls = RX0) (htr : l.stackTraces = false) {sh : List jH} {V : Nat → Nat → Int32} {R : Nat → Nat → Option Nat} {x : Nat} (hT : jReg shX1 sh x) {a1 : Int32} {X : String → (Nat → Nat → Int32) → (Nat → Nat → Option Nat) → Prop} (hd : decode M.2.1 pc = .ok (.invokevirtual 117, 3)) (hdd : 46 + 1 ≤ d) (hw8 : (rest.map fun v => v.category).sum ≤ 8) (hw : wX1_settle x sh V R a1 (fun _ _ _ => False) X) (hb : (∀ E V' R', ¬ X E V' R') ∨ 1 ≤ c ∧ 6 ≤ n) (kx : ∀ E V' R', X E V' R' → JX G l M d 0 0 pc lv E (mk sh V' R') post xp) : J G l M d c n pc lv (.int a1 :: .ref x :: rest) (mk sh V R) post xp := by
  exact J.callV (c := 0) (n := 0) (c' := c) (n' := n) (As := [.int a1]) (hcw := by rw [hM]; exact lw_V q2061 q2062 q2063 q144 q2064) (mX1_settle htr (Nat.le_refl _) hT hw hb) hd rfl ⟨0, _, _, mk_at (hT.at 0 rfl), rfl, rfl, fun _ => rfl⟩ ⟨rfl, by decide, by decide, by show _ = some 1; decide +kernel⟩ hw8 ⟨hdd, by decide⟩ ⟨by omega, by omega⟩ (fun r9 g9 h9 => by obtain ⟨_, _, _, _, _, h⟩ := h9; exact h.elim) (fun E9 g9 h9 => by obtain ⟨V9, R9, rfl, h⟩ := h9; exact kx E9 V9 R9 h)
-- VisitingHoursLaw.settle(LVisitingHours;I[J)I
def wX0_settle (x : Nat) (sh : List jH) (V : Nat → Nat → Int32) (R : Nat → Nat → Option Nat) (c : Nat) (n : Nat) (a2 : Int32) (a3 : Nat) (Q : Int32 → List jH → (Nat → Nat → Int32) → (Nat → Nat → Option Nat) → Prop) : Prop :=
  ((wX1_settle x sh V R a2 (fun r4 V4 R4 => (∀ y8 : Int64, y8 = r4.toInt64 → (∃ f8 : Nat → Int64, sh[a3]? = some (jF (.inl (3, 1, .inr (.inl f8)))) ∧ jn ≤ a3 ∧ (∀ sh8 : List jH, sh8 = sh.set a3 (jF (.inl (3, 1, .inr (.inl (vp_updL f8 0 y8))))) → (jReg shX1 sh8 x ∧ Q (0 : Int32) sh8 V4 R4))))) (fun _ _ _ => False)) ∨ (wX1_settle x sh V R a2 (fun _ _ _ => False) (fun E9 Vx Rx => ((E9 = "java/lang/IndexOutOfBoundsException" ∧ Q (1 : Int32) sh Vx Rx))) ∧ 1 ≤ c ∧ 6 ≤ n))
theorem mX0_settle {G : jG} {l : Launch} {d : Nat} (htr : l.stackTraces = false) (hdd : 47 ≤ d) {sh : List jH} {V : Nat → Nat → Int32} {R : Nat → Nat → Option Nat} {c : Nat} {n : Nat} {x : Nat} (hT : jReg shX1 sh x) {a2 : Int32} {a3 : Nat} {Q : Int32 → List jH → (Nat → Nat → Int32) → (Nat → Nat → Option Nat) → Prop} (hw : wX0_settle x sh V R c n a2 a3 Q) : JM G l MX0_settle d c n [.ref x, .int a2, .ref a3] (mk sh V R) (jSr Q) jNo := by
  refine JM.introH (h9 := _) (t9 := _) (by decide) rfl htr (Nat.le_of_ble_eq_true rfl) ?_
  show J G l MX0_settle d c n 0 [(0, .ref x), (1, .int a2), (2, .ref a3)] [] (mk sh V R) _ _
  unfold wX0_settle at hw
  refine J.aload_n 2 dX0_settle_0 rfl ?_
  refine J.iconst (v := (0 : Int32)) dX0_settle_1 (by decide) ?_
  refine J.aload_n 0 dX0_settle_2 rfl ?_
  refine J.iload_n 1 dX0_settle_3 rfl ?_
  rcases hw with hw | hw
  rotate_left
  · refine uxX0_117 rfl htr hT dX0_settle_4 (by omega) (Nat.le_of_ble_eq_true rfl) hw.1 (Or.inr hw.2) ?_
    clear hw
    intro E9 Vx Rx hw
    obtain ⟨rfl, hw⟩ := hw
    refine JX.catch1 (nm := "java/lang/IndexOutOfBoundsException") (tableOf []) (jent (0, 9, 12, 24)) (tableOf []) rfl (fun _ h => absurd h List.not_mem_nil) (by decide) (by decide) q1637 nw1670 dX0_settle_12 (by decide) ?_
    refine J.iconst (v := (1 : Int32)) dX0_settle_13 (by decide) ?_
    exact J.iret rfl dX0_settle_14 ⟨_, _, _, rfl, _, rfl, hw⟩
  refine uX0_117 rfl htr hT dX0_settle_4 (by omega) (Nat.le_of_ble_eq_true rfl) hw ?_
  clear hw
  intro r4 V4 R4 hw
  refine J.i2l dX0_settle_7 ?_
  refine J.nmL hw ?_
  clear hw
  intro y8 hw
  obtain ⟨f8, hk8, hn8, hw⟩ := hw
  refine JV.last0 dX0_settle_8 hn8 hk8 ?_
  refine J.nms hw ?_
  clear hw
  intro sh8 hw
  clear hT
  obtain ⟨hT, hw⟩ := hw
  refine J.goto 15 dX0_settle_9 (by decide) ?_
  refine J.iconst (v := (0 : Int32)) dX0_settle_15 (by decide) ?_
  exact J.iret rfl dX0_settle_16 ⟨_, _, _, rfl, _, rfl, hw⟩
abbrev MX0_gladder : jM := (yX0_gladder, cX0_gladder, 4, some .int, [(0, 9, 12, 13)])
theorem uX0_120 {G : jG} {l : Launch} {M : jM} {d c n pc : Nat} {lv : List (Nat × Value)} {rest : List Value} {post : Option Value → List jC → Prop} {xp : String → List jC → Prop} (hM : M.1.cls = RX0) (htr : l.stackTraces = false) {sh : List jH} {V : Nat → Nat → Int32} {R : Nat → Nat → Option Nat} {x : Nat} (hT : jReg shX1 sh x) {a1 : Int32} {Q : Int32 → (Nat → Nat → Int32) → (Nat → Nat → Option Nat) → Prop} (hd : decode M.2.1 pc = .ok (.invokevirtual 120, 3)) (hdd : 46 + 1 ≤ d) (hw8 : (rest.map fun v => v.category).sum ≤ 8) (hw : wX1_gladder x sh V R a1 Q (fun _ _ _ => False)) (kk : ∀ r V' R', Q r V' R' → J G l M d c n (pc + 3) lv (.int r :: rest) (mk sh V' R') post xp) : J G l M d c n pc lv (.int a1 :: .ref x :: rest) (mk sh V R) post xp := by
  exact J.callV (c' := 0) (n' := 0) (As := [.int a1]) (hcw := by rw [hM]; exact lw_V q2072 q2073 q2074 q144 q2075) (mX1_gladder htr (Nat.le_refl _) hT hw (Or.inl (fun _ _ _ h => h))) hd rfl ⟨0, _, _, mk_at (hT.at 0 rfl), rfl, rfl, fun _ => rfl⟩ ⟨rfl, by decide, by decide, by show _ = some 1; decide +kernel⟩ hw8 ⟨hdd, by decide⟩ jcc0 (fun r9 g9 h9 => by obtain ⟨V9, R9, rfl, r, rfl, h⟩ := h9; exact kk r V9 R9 h) (fun E9 g9 h9 => by obtain ⟨_, _, _, h⟩ := h9; exact h.elim)
theorem uxX0_120 {G : jG} {l : Launch} {M : jM} {d c n pc : Nat} {lv : List (Nat × Value)} {rest : List Value} {post : Option Value → List jC → Prop} {xp : String → List jC → Prop} (hM : M.1.cls = RX0) (htr : l.stackTraces = false) {sh : List jH} {V : Nat → Nat → Int32} {R : Nat → Nat → Option Nat} {x : Nat} (hT : jReg shX1 sh x) {a1 : Int32} {X : String → (Nat → Nat → Int32) → (Nat → Nat → Option Nat) → Prop} (hd : decode M.2.1 pc = .ok (.invokevirtual 120, 3)) (hdd : 46 + 1 ≤ d) (hw8 : (rest.map fun v => v.category).sum ≤ 8) (hw : wX1_gladder x sh V R a1 (fun _ _ _ => False) X) (hb : (∀ E V' R', ¬ X E V' R') ∨ 1 ≤ c ∧ 6 ≤ n) (kx : ∀ E V' R', X E V' R' → JX G l M d 0 0 pc lv E (mk sh V' R') post xp) : J G l M d c n pc lv (.int a1 :: .ref x :: rest) (mk sh V R) post xp := by
  exact J.callV (c := 0) (n := 0) (c' := c) (n' := n) (As := [.int a1]) (hcw := by rw [hM]; exact lw_V q2072 q2073 q2074 q144 q2075) (mX1_gladder htr (Nat.le_refl _) hT hw hb) hd rfl ⟨0, _, _, mk_at (hT.at 0 rfl), rfl, rfl, fun _ => rfl⟩ ⟨rfl, by decide, by decide, by show _ = some 1; decide +kernel⟩ hw8 ⟨hdd, by decide⟩ ⟨by omega, by omega⟩ (fun r9 g9 h9 => by obtain ⟨_, _, _, _, _, h⟩ := h9; exact h.elim) (fun E9 g9 h9 => by obtain ⟨V9, R9, rfl, h⟩ := h9; exact kx E9 V9 R9 h)
-- VisitingHoursLaw.gladder(LVisitingHours;I[J)I
def wX0_gladder (x : Nat) (sh : List jH) (V : Nat → Nat → Int32) (R : Nat → Nat → Option Nat) (c : Nat) (n : Nat) (a2 : Int32) (a3 : Nat) (Q : Int32 → List jH → (Nat → Nat → Int32) → (Nat → Nat → Option Nat) → Prop) : Prop :=
  ((wX1_gladder x sh V R a2 (fun r4 V4 R4 => (∀ y8 : Int64, y8 = r4.toInt64 → (∃ f8 : Nat → Int64, sh[a3]? = some (jF (.inl (3, 1, .inr (.inl f8)))) ∧ jn ≤ a3 ∧ (∀ sh8 : List jH, sh8 = sh.set a3 (jF (.inl (3, 1, .inr (.inl (vp_updL f8 0 y8))))) → (jReg shX1 sh8 x ∧ Q (0 : Int32) sh8 V4 R4))))) (fun _ _ _ => False)) ∨ (wX1_gladder x sh V R a2 (fun _ _ _ => False) (fun E9 Vx Rx => ((E9 = "java/lang/IllegalArgumentException" ∧ Q (1 : Int32) sh Vx Rx))) ∧ 1 ≤ c ∧ 6 ≤ n))
theorem mX0_gladder {G : jG} {l : Launch} {d : Nat} (htr : l.stackTraces = false) (hdd : 47 ≤ d) {sh : List jH} {V : Nat → Nat → Int32} {R : Nat → Nat → Option Nat} {c : Nat} {n : Nat} {x : Nat} (hT : jReg shX1 sh x) {a2 : Int32} {a3 : Nat} {Q : Int32 → List jH → (Nat → Nat → Int32) → (Nat → Nat → Option Nat) → Prop} (hw : wX0_gladder x sh V R c n a2 a3 Q) : JM G l MX0_gladder d c n [.ref x, .int a2, .ref a3] (mk sh V R) (jSr Q) jNo := by
  refine JM.introH (h9 := _) (t9 := _) (by decide) rfl htr (Nat.le_of_ble_eq_true rfl) ?_
  show J G l MX0_gladder d c n 0 [(0, .ref x), (1, .int a2), (2, .ref a3)] [] (mk sh V R) _ _
  unfold wX0_gladder at hw
  refine J.aload_n 2 dX0_gladder_0 rfl ?_
  refine J.iconst (v := (0 : Int32)) dX0_gladder_1 (by decide) ?_
  refine J.aload_n 0 dX0_gladder_2 rfl ?_
  refine J.iload_n 1 dX0_gladder_3 rfl ?_
  rcases hw with hw | hw
  rotate_left
  · refine uxX0_120 rfl htr hT dX0_gladder_4 (by omega) (Nat.le_of_ble_eq_true rfl) hw.1 (Or.inr hw.2) ?_
    clear hw
    intro E9 Vx Rx hw
    obtain ⟨rfl, hw⟩ := hw
    refine JX.catch1 (nm := "java/lang/IllegalArgumentException") (tableOf []) (jent (0, 9, 12, 13)) (tableOf []) rfl (fun _ h => absurd h List.not_mem_nil) (by decide) (by decide) q807 nw1003 dX0_gladder_12 (by decide) ?_
    refine J.iconst (v := (1 : Int32)) dX0_gladder_13 (by decide) ?_
    exact J.iret rfl dX0_gladder_14 ⟨_, _, _, rfl, _, rfl, hw⟩
  refine uX0_120 rfl htr hT dX0_gladder_4 (by omega) (Nat.le_of_ble_eq_true rfl) hw ?_
  clear hw
  intro r4 V4 R4 hw
  refine J.i2l dX0_gladder_7 ?_
  refine J.nmL hw ?_
  clear hw
  intro y8 hw
  obtain ⟨f8, hk8, hn8, hw⟩ := hw
  refine JV.last0 dX0_gladder_8 hn8 hk8 ?_
  refine J.nms hw ?_
  clear hw
  intro sh8 hw
  clear hT
  obtain ⟨hT, hw⟩ := hw
  refine J.goto 15 dX0_gladder_9 (by decide) ?_
  refine J.iconst (v := (0 : Int32)) dX0_gladder_15 (by decide) ?_
  exact J.iret rfl dX0_gladder_16 ⟨_, _, _, rfl, _, rfl, hw⟩
abbrev MX0_ahead : jM := (yX0_ahead, cX0_ahead, 6, some .int, [(0, 12, 15, 24), (0, 12, 19, 13), (0, 12, 23, 26)])
theorem uX0_123 {G : jG} {l : Launch} {M : jM} {d c n pc : Nat} {lv : List (Nat × Value)} {rest : List Value} {post : Option Value → List jC → Prop} {xp : String → List jC → Prop} (hM : M.1.cls = RX0) (htr : l.stackTraces = false) {sh : List jH} {V : Nat → Nat → Int32} {R : Nat → Nat → Option Nat} {x : Nat} (hT : jReg shX1 sh x) {a1 : Int32} {a2 : Int32} {a3 : Int32} {Q : Int32 → (Nat → Nat → Int32) → (Nat → Nat → Option Nat) → Prop} (hd : decode M.2.1 pc = .ok (.invokevirtual 123, 3)) (hdd : 46 + 1 ≤ d) (hw8 : (rest.map fun v => v.category).sum ≤ 8) (hw : wX1_ahead x sh V R a1 a2 a3 Q (fun _ _ _ => False)) (kk : ∀ r V' R', Q r V' R' → J G l M d c n (pc + 3) lv (.int r :: rest) (mk sh V' R') post xp) : J G l M d c n pc lv (.int a3 :: .int a2 :: .int a1 :: .ref x :: rest) (mk sh V R) post xp := by
  exact J.callV (c' := 0) (n' := 0) (As := [.int a1, .int a2, .int a3]) (hcw := by rw [hM]; exact lw_V q2082 q2083 q2084 q144 q2085) (mX1_ahead htr (Nat.le_refl _) hT hw (Or.inl (fun _ _ _ h => h))) hd rfl ⟨0, _, _, mk_at (hT.at 0 rfl), rfl, rfl, fun _ => rfl⟩ ⟨rfl, by decide, by decide, by show _ = some 3; decide +kernel⟩ hw8 ⟨hdd, by decide⟩ jcc0 (fun r9 g9 h9 => by obtain ⟨V9, R9, rfl, r, rfl, h⟩ := h9; exact kk r V9 R9 h) (fun E9 g9 h9 => by obtain ⟨_, _, _, h⟩ := h9; exact h.elim)
theorem uxX0_123 {G : jG} {l : Launch} {M : jM} {d c n pc : Nat} {lv : List (Nat × Value)} {rest : List Value} {post : Option Value → List jC → Prop} {xp : String → List jC → Prop} (hM : M.1.cls = RX0) (htr : l.stackTraces = false) {sh : List jH} {V : Nat → Nat → Int32} {R : Nat → Nat → Option Nat} {x : Nat} (hT : jReg shX1 sh x) {a1 : Int32} {a2 : Int32} {a3 : Int32} {X : String → (Nat → Nat → Int32) → (Nat → Nat → Option Nat) → Prop} (hd : decode M.2.1 pc = .ok (.invokevirtual 123, 3)) (hdd : 46 + 1 ≤ d) (hw8 : (rest.map fun v => v.category).sum ≤ 8) (hw : wX1_ahead x sh V R a1 a2 a3 (fun _ _ _ => False) X) (hb : (∀ E V' R', ¬ X E V' R') ∨ 1 ≤ c ∧ 6 ≤ n) (kx : ∀ E V' R', X E V' R' → JX G l M d 0 0 pc lv E (mk sh V' R') post xp) : J G l M d c n pc lv (.int a3 :: .int a2 :: .int a1 :: .ref x :: rest) (mk sh V R) post xp := by
  exact J.callV (c := 0) (n := 0) (c' := c) (n' := n) (As := [.int a1, .int a2, .int a3]) (hcw := by rw [hM]; exact lw_V q2082 q2083 q2084 q144 q2085) (mX1_ahead htr (Nat.le_refl _) hT hw hb) hd rfl ⟨0, _, _, mk_at (hT.at 0 rfl), rfl, rfl, fun _ => rfl⟩ ⟨rfl, by decide, by decide, by show _ = some 3; decide +kernel⟩ hw8 ⟨hdd, by decide⟩ ⟨by omega, by omega⟩ (fun r9 g9 h9 => by obtain ⟨_, _, _, _, _, h⟩ := h9; exact h.elim) (fun E9 g9 h9 => by obtain ⟨V9, R9, rfl, h⟩ := h9; exact kx E9 V9 R9 h)
-- VisitingHoursLaw.ahead(LVisitingHours;III[J)I
def wX0_ahead (x : Nat) (sh : List jH) (V : Nat → Nat → Int32) (R : Nat → Nat → Option Nat) (c : Nat) (n : Nat) (a2 : Int32) (a3 : Int32) (a4 : Int32) (a5 : Nat) (Q : Int32 → List jH → (Nat → Nat → Int32) → (Nat → Nat → Option Nat) → Prop) : Prop :=
  ((wX1_ahead x sh V R a2 a3 a4 (fun r7 V7 R7 => (∀ y11 : Int64, y11 = r7.toInt64 → (∃ f11 : Nat → Int64, sh[a5]? = some (jF (.inl (3, 1, .inr (.inl f11)))) ∧ jn ≤ a5 ∧ (∀ sh11 : List jH, sh11 = sh.set a5 (jF (.inl (3, 1, .inr (.inl (vp_updL f11 0 y11))))) → (jReg shX1 sh11 x ∧ Q (0 : Int32) sh11 V7 R7))))) (fun _ _ _ => False)) ∨ (wX1_ahead x sh V R a2 a3 a4 (fun _ _ _ => False) (fun E9 Vx Rx => ((E9 = "java/lang/IndexOutOfBoundsException" ∧ Q (1 : Int32) sh Vx Rx) ∨ (E9 = "java/lang/IllegalArgumentException" ∧ Q (2 : Int32) sh Vx Rx) ∨ (E9 = "java/util/NoSuchElementException" ∧ Q (3 : Int32) sh Vx Rx))) ∧ 1 ≤ c ∧ 6 ≤ n))
theorem mX0_ahead {G : jG} {l : Launch} {d : Nat} (htr : l.stackTraces = false) (hdd : 47 ≤ d) {sh : List jH} {V : Nat → Nat → Int32} {R : Nat → Nat → Option Nat} {c : Nat} {n : Nat} {x : Nat} (hT : jReg shX1 sh x) {a2 : Int32} {a3 : Int32} {a4 : Int32} {a5 : Nat} {Q : Int32 → List jH → (Nat → Nat → Int32) → (Nat → Nat → Option Nat) → Prop} (hw : wX0_ahead x sh V R c n a2 a3 a4 a5 Q) : JM G l MX0_ahead d c n [.ref x, .int a2, .int a3, .int a4, .ref a5] (mk sh V R) (jSr Q) jNo := by
  refine JM.introH (h9 := _) (t9 := _) (by decide) rfl htr (Nat.le_of_ble_eq_true rfl) ?_
  show J G l MX0_ahead d c n 0 [(0, .ref x), (1, .int a2), (2, .int a3), (3, .int a4), (4, .ref a5)] [] (mk sh V R) _ _
  unfold wX0_ahead at hw
  refine J.aload 4 dX0_ahead_0 rfl ?_
  refine J.iconst (v := (0 : Int32)) dX0_ahead_2 (by decide) ?_
  refine J.aload_n 0 dX0_ahead_3 rfl ?_
  refine J.iload_n 1 dX0_ahead_4 rfl ?_
  refine J.iload_n 2 dX0_ahead_5 rfl ?_
  refine J.iload_n 3 dX0_ahead_6 rfl ?_
  rcases hw with hw | hw
  rotate_left
  · refine uxX0_123 rfl htr hT dX0_ahead_7 (by omega) (Nat.le_of_ble_eq_true rfl) hw.1 (Or.inr hw.2) ?_
    clear hw
    intro E9 Vx Rx hw
    rcases hw with ⟨rfl, hw⟩ | ⟨rfl, hw⟩ | ⟨rfl, hw⟩
    · refine JX.catch2 (nm := "java/lang/IndexOutOfBoundsException") (tableOf []) (jent (0, 12, 15, 24)) (tableOf [(0, 12, 19, 13), (0, 12, 23, 26)]) rfl (fun _ h => absurd h List.not_mem_nil) (by decide) (by decide) q1637 nw1670 dX0_ahead_15 (by decide) ?_
      refine J.iconst (v := (1 : Int32)) dX0_ahead_17 (by decide) ?_
      exact J.iret rfl dX0_ahead_18 ⟨_, _, _, rfl, _, rfl, hw⟩
    · refine JX.catch2 (nm := "java/lang/IllegalArgumentException") (tableOf [(0, 12, 15, 24)]) (jent (0, 12, 19, 13)) (tableOf [(0, 12, 23, 26)]) rfl (List.forall_mem_cons.mpr ⟨Or.inr ⟨by decide, "java/lang/IndexOutOfBoundsException", q1637, List.mem_of_getElem? (i := 0) rfl⟩, (fun _ h => absurd h List.not_mem_nil)⟩) (by decide) (by decide) q807 nw1003 dX0_ahead_19 (by decide) ?_
      refine J.iconst (v := (2 : Int32)) dX0_ahead_21 (by decide) ?_
      exact J.iret rfl dX0_ahead_22 ⟨_, _, _, rfl, _, rfl, hw⟩
    · refine JX.catch2 (nm := "java/util/NoSuchElementException") (tableOf [(0, 12, 15, 24), (0, 12, 19, 13)]) (jent (0, 12, 23, 26)) (tableOf []) rfl (List.forall_mem_cons.mpr ⟨Or.inr ⟨by decide, "java/lang/IndexOutOfBoundsException", q1637, List.mem_of_getElem? (i := 1) rfl⟩, (List.forall_mem_cons.mpr ⟨Or.inr ⟨by decide, "java/lang/IllegalArgumentException", q807, List.mem_of_getElem? (i := 2) rfl⟩, (fun _ h => absurd h List.not_mem_nil)⟩)⟩) (by decide) (by decide) q1656 nw1688 dX0_ahead_23 (by decide) ?_
      refine J.iconst (v := (3 : Int32)) dX0_ahead_25 (by decide) ?_
      exact J.iret rfl dX0_ahead_26 ⟨_, _, _, rfl, _, rfl, hw⟩
  refine uX0_123 rfl htr hT dX0_ahead_7 (by omega) (Nat.le_of_ble_eq_true rfl) hw ?_
  clear hw
  intro r7 V7 R7 hw
  refine J.i2l dX0_ahead_10 ?_
  refine J.nmL hw ?_
  clear hw
  intro y11 hw
  obtain ⟨f11, hk11, hn11, hw⟩ := hw
  refine JV.last0 dX0_ahead_11 hn11 hk11 ?_
  refine J.nms hw ?_
  clear hw
  intro sh11 hw
  clear hT
  obtain ⟨hT, hw⟩ := hw
  refine J.goto 27 dX0_ahead_12 (by decide) ?_
  refine J.iconst (v := (0 : Int32)) dX0_ahead_27 (by decide) ?_
  exact J.iret rfl dX0_ahead_28 ⟨_, _, _, rfl, _, rfl, hw⟩
abbrev MX0_trial : jM := (yX0_trial, cX0_trial, 5, some .int, [(0, 10, 13, 13)])
theorem uX0_126 {G : jG} {l : Launch} {M : jM} {d c n pc : Nat} {lv : List (Nat × Value)} {rest : List Value} {post : Option Value → List jC → Prop} {xp : String → List jC → Prop} (hM : M.1.cls = RX0) (htr : l.stackTraces = false) {sh : List jH} {V : Nat → Nat → Int32} {R : Nat → Nat → Option Nat} {x : Nat} (hT : jReg shX1 sh x) {a1 : Int32} {a2 : Int32} {Q : Int32 → (Nat → Nat → Int32) → (Nat → Nat → Option Nat) → Prop} (hd : decode M.2.1 pc = .ok (.invokevirtual 126, 3)) (hdd : 46 + 1 ≤ d) (hw8 : (rest.map fun v => v.category).sum ≤ 8) (hw : wX1_trial x sh V R a1 a2 Q (fun _ _ _ => False)) (kk : ∀ r V' R', Q r V' R' → J G l M d c n (pc + 3) lv (.int r :: rest) (mk sh V' R') post xp) : J G l M d c n pc lv (.int a2 :: .int a1 :: .ref x :: rest) (mk sh V R) post xp := by
  exact J.callV (c' := 0) (n' := 0) (As := [.int a1, .int a2]) (hcw := by rw [hM]; exact lw_V q2089 q2090 q2091 q144 q2092) (mX1_trial htr (Nat.le_refl _) hT hw (Or.inl (fun _ _ _ h => h))) hd rfl ⟨0, _, _, mk_at (hT.at 0 rfl), rfl, rfl, fun _ => rfl⟩ ⟨rfl, by decide, by decide, by show _ = some 2; decide +kernel⟩ hw8 ⟨hdd, by decide⟩ jcc0 (fun r9 g9 h9 => by obtain ⟨V9, R9, rfl, r, rfl, h⟩ := h9; exact kk r V9 R9 h) (fun E9 g9 h9 => by obtain ⟨_, _, _, h⟩ := h9; exact h.elim)
theorem uxX0_126 {G : jG} {l : Launch} {M : jM} {d c n pc : Nat} {lv : List (Nat × Value)} {rest : List Value} {post : Option Value → List jC → Prop} {xp : String → List jC → Prop} (hM : M.1.cls = RX0) (htr : l.stackTraces = false) {sh : List jH} {V : Nat → Nat → Int32} {R : Nat → Nat → Option Nat} {x : Nat} (hT : jReg shX1 sh x) {a1 : Int32} {a2 : Int32} {X : String → (Nat → Nat → Int32) → (Nat → Nat → Option Nat) → Prop} (hd : decode M.2.1 pc = .ok (.invokevirtual 126, 3)) (hdd : 46 + 1 ≤ d) (hw8 : (rest.map fun v => v.category).sum ≤ 8) (hw : wX1_trial x sh V R a1 a2 (fun _ _ _ => False) X) (hb : (∀ E V' R', ¬ X E V' R') ∨ 1 ≤ c ∧ 6 ≤ n) (kx : ∀ E V' R', X E V' R' → JX G l M d 0 0 pc lv E (mk sh V' R') post xp) : J G l M d c n pc lv (.int a2 :: .int a1 :: .ref x :: rest) (mk sh V R) post xp := by
  exact J.callV (c := 0) (n := 0) (c' := c) (n' := n) (As := [.int a1, .int a2]) (hcw := by rw [hM]; exact lw_V q2089 q2090 q2091 q144 q2092) (mX1_trial htr (Nat.le_refl _) hT hw hb) hd rfl ⟨0, _, _, mk_at (hT.at 0 rfl), rfl, rfl, fun _ => rfl⟩ ⟨rfl, by decide, by decide, by show _ = some 2; decide +kernel⟩ hw8 ⟨hdd, by decide⟩ ⟨by omega, by omega⟩ (fun r9 g9 h9 => by obtain ⟨_, _, _, _, _, h⟩ := h9; exact h.elim) (fun E9 g9 h9 => by obtain ⟨V9, R9, rfl, h⟩ := h9; exact kx E9 V9 R9 h)
-- VisitingHoursLaw.trial(LVisitingHours;IZ[J)I
def wX0_trial (x : Nat) (sh : List jH) (V : Nat → Nat → Int32) (R : Nat → Nat → Option Nat) (c : Nat) (n : Nat) (a2 : Int32) (a3 : Int32) (a4 : Nat) (Q : Int32 → List jH → (Nat → Nat → Int32) → (Nat → Nat → Option Nat) → Prop) : Prop :=
  ((wX1_trial x sh V R a2 a3 (fun r5 V5 R5 => (∀ y9 : Int64, y9 = r5.toInt64 → (∃ f9 : Nat → Int64, sh[a4]? = some (jF (.inl (3, 1, .inr (.inl f9)))) ∧ jn ≤ a4 ∧ (∀ sh9 : List jH, sh9 = sh.set a4 (jF (.inl (3, 1, .inr (.inl (vp_updL f9 0 y9))))) → (jReg shX1 sh9 x ∧ Q (0 : Int32) sh9 V5 R5))))) (fun _ _ _ => False)) ∨ (wX1_trial x sh V R a2 a3 (fun _ _ _ => False) (fun E9 Vx Rx => ((E9 = "java/lang/IllegalArgumentException" ∧ Q (1 : Int32) sh Vx Rx))) ∧ 1 ≤ c ∧ 6 ≤ n))
theorem mX0_trial {G : jG} {l : Launch} {d : Nat} (htr : l.stackTraces = false) (hdd : 47 ≤ d) {sh : List jH} {V : Nat → Nat → Int32} {R : Nat → Nat → Option Nat} {c : Nat} {n : Nat} {x : Nat} (hT : jReg shX1 sh x) {a2 : Int32} {a3 : Int32} {a4 : Nat} {Q : Int32 → List jH → (Nat → Nat → Int32) → (Nat → Nat → Option Nat) → Prop} (hw : wX0_trial x sh V R c n a2 a3 a4 Q) : JM G l MX0_trial d c n [.ref x, .int a2, .int a3, .ref a4] (mk sh V R) (jSr Q) jNo := by
  refine JM.introH (h9 := _) (t9 := _) (by decide) rfl htr (Nat.le_of_ble_eq_true rfl) ?_
  show J G l MX0_trial d c n 0 [(0, .ref x), (1, .int a2), (2, .int a3), (3, .ref a4)] [] (mk sh V R) _ _
  unfold wX0_trial at hw
  refine J.aload_n 3 dX0_trial_0 rfl ?_
  refine J.iconst (v := (0 : Int32)) dX0_trial_1 (by decide) ?_
  refine J.aload_n 0 dX0_trial_2 rfl ?_
  refine J.iload_n 1 dX0_trial_3 rfl ?_
  refine J.iload_n 2 dX0_trial_4 rfl ?_
  rcases hw with hw | hw
  rotate_left
  · refine uxX0_126 rfl htr hT dX0_trial_5 (by omega) (Nat.le_of_ble_eq_true rfl) hw.1 (Or.inr hw.2) ?_
    clear hw
    intro E9 Vx Rx hw
    obtain ⟨rfl, hw⟩ := hw
    refine JX.catch2 (nm := "java/lang/IllegalArgumentException") (tableOf []) (jent (0, 10, 13, 13)) (tableOf []) rfl (fun _ h => absurd h List.not_mem_nil) (by decide) (by decide) q807 nw1003 dX0_trial_13 (by decide) ?_
    refine J.iconst (v := (1 : Int32)) dX0_trial_15 (by decide) ?_
    exact J.iret rfl dX0_trial_16 ⟨_, _, _, rfl, _, rfl, hw⟩
  refine uX0_126 rfl htr hT dX0_trial_5 (by omega) (Nat.le_of_ble_eq_true rfl) hw ?_
  clear hw
  intro r5 V5 R5 hw
  refine J.i2l dX0_trial_8 ?_
  refine J.nmL hw ?_
  clear hw
  intro y9 hw
  obtain ⟨f9, hk9, hn9, hw⟩ := hw
  refine JV.last0 dX0_trial_9 hn9 hk9 ?_
  refine J.nms hw ?_
  clear hw
  intro sh9 hw
  clear hT
  obtain ⟨hT, hw⟩ := hw
  refine J.goto 17 dX0_trial_10 (by decide) ?_
  refine J.iconst (v := (0 : Int32)) dX0_trial_17 (by decide) ?_
  exact J.iret rfl dX0_trial_18 ⟨_, _, _, rfl, _, rfl, hw⟩
abbrev MX0_span : jM := (yX0_span, cX0_span, 5, some .int, [(0, 10, 13, 13)])
theorem uX0_130 {G : jG} {l : Launch} {M : jM} {d c n pc : Nat} {lv : List (Nat × Value)} {rest : List Value} {post : Option Value → List jC → Prop} {xp : String → List jC → Prop} (hM : M.1.cls = RX0) (htr : l.stackTraces = false) {sh : List jH} {V : Nat → Nat → Int32} {R : Nat → Nat → Option Nat} {x : Nat} (hT : jReg shX1 sh x) {a1 : Int32} {a2 : Int32} {Q : Int32 → (Nat → Nat → Int32) → (Nat → Nat → Option Nat) → Prop} (hd : decode M.2.1 pc = .ok (.invokevirtual 130, 3)) (hdd : 46 + 1 ≤ d) (hw8 : (rest.map fun v => v.category).sum ≤ 8) (hw : wX1_span x sh V R a1 a2 Q (fun _ _ _ => False)) (kk : ∀ r V' R', Q r V' R' → J G l M d c n (pc + 3) lv (.int r :: rest) (mk sh V' R') post xp) : J G l M d c n pc lv (.int a2 :: .int a1 :: .ref x :: rest) (mk sh V R) post xp := by
  exact J.callV (c' := 0) (n' := 0) (As := [.int a1, .int a2]) (hcw := by rw [hM]; exact lw_V q2100 q2101 q2102 q144 q2103) (mX1_span htr (Nat.le_refl _) hT hw (Or.inl (fun _ _ _ h => h))) hd rfl ⟨0, _, _, mk_at (hT.at 0 rfl), rfl, rfl, fun _ => rfl⟩ ⟨rfl, by decide, by decide, by show _ = some 2; decide +kernel⟩ hw8 ⟨hdd, by decide⟩ jcc0 (fun r9 g9 h9 => by obtain ⟨V9, R9, rfl, r, rfl, h⟩ := h9; exact kk r V9 R9 h) (fun E9 g9 h9 => by obtain ⟨_, _, _, h⟩ := h9; exact h.elim)
theorem uxX0_130 {G : jG} {l : Launch} {M : jM} {d c n pc : Nat} {lv : List (Nat × Value)} {rest : List Value} {post : Option Value → List jC → Prop} {xp : String → List jC → Prop} (hM : M.1.cls = RX0) (htr : l.stackTraces = false) {sh : List jH} {V : Nat → Nat → Int32} {R : Nat → Nat → Option Nat} {x : Nat} (hT : jReg shX1 sh x) {a1 : Int32} {a2 : Int32} {X : String → (Nat → Nat → Int32) → (Nat → Nat → Option Nat) → Prop} (hd : decode M.2.1 pc = .ok (.invokevirtual 130, 3)) (hdd : 46 + 1 ≤ d) (hw8 : (rest.map fun v => v.category).sum ≤ 8) (hw : wX1_span x sh V R a1 a2 (fun _ _ _ => False) X) (hb : (∀ E V' R', ¬ X E V' R') ∨ 1 ≤ c ∧ 6 ≤ n) (kx : ∀ E V' R', X E V' R' → JX G l M d 0 0 pc lv E (mk sh V' R') post xp) : J G l M d c n pc lv (.int a2 :: .int a1 :: .ref x :: rest) (mk sh V R) post xp := by
  exact J.callV (c := 0) (n := 0) (c' := c) (n' := n) (As := [.int a1, .int a2]) (hcw := by rw [hM]; exact lw_V q2100 q2101 q2102 q144 q2103) (mX1_span htr (Nat.le_refl _) hT hw hb) hd rfl ⟨0, _, _, mk_at (hT.at 0 rfl), rfl, rfl, fun _ => rfl⟩ ⟨rfl, by decide, by decide, by show _ = some 2; decide +kernel⟩ hw8 ⟨hdd, by decide⟩ ⟨by omega, by omega⟩ (fun r9 g9 h9 => by obtain ⟨_, _, _, _, _, h⟩ := h9; exact h.elim) (fun E9 g9 h9 => by obtain ⟨V9, R9, rfl, h⟩ := h9; exact kx E9 V9 R9 h)
-- VisitingHoursLaw.span(LVisitingHours;IZ[J)I
def wX0_span (x : Nat) (sh : List jH) (V : Nat → Nat → Int32) (R : Nat → Nat → Option Nat) (c : Nat) (n : Nat) (a2 : Int32) (a3 : Int32) (a4 : Nat) (Q : Int32 → List jH → (Nat → Nat → Int32) → (Nat → Nat → Option Nat) → Prop) : Prop :=
  ((wX1_span x sh V R a2 a3 (fun r5 V5 R5 => (∀ y9 : Int64, y9 = r5.toInt64 → (∃ f9 : Nat → Int64, sh[a4]? = some (jF (.inl (3, 1, .inr (.inl f9)))) ∧ jn ≤ a4 ∧ (∀ sh9 : List jH, sh9 = sh.set a4 (jF (.inl (3, 1, .inr (.inl (vp_updL f9 0 y9))))) → (jReg shX1 sh9 x ∧ Q (0 : Int32) sh9 V5 R5))))) (fun _ _ _ => False)) ∨ (wX1_span x sh V R a2 a3 (fun _ _ _ => False) (fun E9 Vx Rx => ((E9 = "java/lang/IllegalArgumentException" ∧ Q (1 : Int32) sh Vx Rx))) ∧ 1 ≤ c ∧ 6 ≤ n))
theorem mX0_span {G : jG} {l : Launch} {d : Nat} (htr : l.stackTraces = false) (hdd : 47 ≤ d) {sh : List jH} {V : Nat → Nat → Int32} {R : Nat → Nat → Option Nat} {c : Nat} {n : Nat} {x : Nat} (hT : jReg shX1 sh x) {a2 : Int32} {a3 : Int32} {a4 : Nat} {Q : Int32 → List jH → (Nat → Nat → Int32) → (Nat → Nat → Option Nat) → Prop} (hw : wX0_span x sh V R c n a2 a3 a4 Q) : JM G l MX0_span d c n [.ref x, .int a2, .int a3, .ref a4] (mk sh V R) (jSr Q) jNo := by
  refine JM.introH (h9 := _) (t9 := _) (by decide) rfl htr (Nat.le_of_ble_eq_true rfl) ?_
  show J G l MX0_span d c n 0 [(0, .ref x), (1, .int a2), (2, .int a3), (3, .ref a4)] [] (mk sh V R) _ _
  unfold wX0_span at hw
  refine J.aload_n 3 dX0_span_0 rfl ?_
  refine J.iconst (v := (0 : Int32)) dX0_span_1 (by decide) ?_
  refine J.aload_n 0 dX0_span_2 rfl ?_
  refine J.iload_n 1 dX0_span_3 rfl ?_
  refine J.iload_n 2 dX0_span_4 rfl ?_
  rcases hw with hw | hw
  rotate_left
  · refine uxX0_130 rfl htr hT dX0_span_5 (by omega) (Nat.le_of_ble_eq_true rfl) hw.1 (Or.inr hw.2) ?_
    clear hw
    intro E9 Vx Rx hw
    obtain ⟨rfl, hw⟩ := hw
    refine JX.catch2 (nm := "java/lang/IllegalArgumentException") (tableOf []) (jent (0, 10, 13, 13)) (tableOf []) rfl (fun _ h => absurd h List.not_mem_nil) (by decide) (by decide) q807 nw1003 dX0_span_13 (by decide) ?_
    refine J.iconst (v := (1 : Int32)) dX0_span_15 (by decide) ?_
    exact J.iret rfl dX0_span_16 ⟨_, _, _, rfl, _, rfl, hw⟩
  refine uX0_130 rfl htr hT dX0_span_5 (by omega) (Nat.le_of_ble_eq_true rfl) hw ?_
  clear hw
  intro r5 V5 R5 hw
  refine J.i2l dX0_span_8 ?_
  refine J.nmL hw ?_
  clear hw
  intro y9 hw
  obtain ⟨f9, hk9, hn9, hw⟩ := hw
  refine JV.last0 dX0_span_9 hn9 hk9 ?_
  refine J.nms hw ?_
  clear hw
  intro sh9 hw
  clear hT
  obtain ⟨hT, hw⟩ := hw
  refine J.goto 17 dX0_span_10 (by decide) ?_
  refine J.iconst (v := (0 : Int32)) dX0_span_17 (by decide) ?_
  exact J.iret rfl dX0_span_18 ⟨_, _, _, rfl, _, rfl, hw⟩
abbrev MX0_led : jM := (yX0_led, cX0_led, 5, some .int, [(0, 10, 13, 24)])
theorem uX0_133 {G : jG} {l : Launch} {M : jM} {d c n pc : Nat} {lv : List (Nat × Value)} {rest : List Value} {post : Option Value → List jC → Prop} {xp : String → List jC → Prop} (hM : M.1.cls = RX0) (htr : l.stackTraces = false) {sh : List jH} {V : Nat → Nat → Int32} {R : Nat → Nat → Option Nat} {x : Nat} (hT : jReg shX1 sh x) {a1 : Int32} {a2 : Int32} {Q : Int32 → Prop} (hd : decode M.2.1 pc = .ok (.invokevirtual 133, 3)) (hdd : 10 + 1 ≤ d) (hw8 : (rest.map fun v => v.category).sum ≤ 8) (hw : wX1_led x V a1 a2 Q (fun _ => False)) (kk : ∀ r, Q r → J G l M d c n (pc + 3) lv (.int r :: rest) (mk sh V R) post xp) : J G l M d c n pc lv (.int a2 :: .int a1 :: .ref x :: rest) (mk sh V R) post xp := by
  exact J.callV (c' := 0) (n' := 0) (As := [.int a1, .int a2]) (hcw := by rw [hM]; exact lw_V q2107 q2108 q2109 q144 q2110) (mX1_led htr hT hw (Or.inl (fun _ h => h))) hd rfl ⟨0, _, _, mk_at (hT.at 0 rfl), rfl, rfl, fun _ => rfl⟩ ⟨rfl, by decide, by decide, by show _ = some 2; decide +kernel⟩ hw8 ⟨hdd, by decide⟩ jcc0 (fun r9 g9 h9 => by obtain ⟨rfl, r, rfl, h⟩ := h9; exact kk r h) (fun E9 g9 h9 => by obtain ⟨_, h⟩ := h9; exact h.elim)
theorem uxX0_133 {G : jG} {l : Launch} {M : jM} {d c n pc : Nat} {lv : List (Nat × Value)} {rest : List Value} {post : Option Value → List jC → Prop} {xp : String → List jC → Prop} (hM : M.1.cls = RX0) (htr : l.stackTraces = false) {sh : List jH} {V : Nat → Nat → Int32} {R : Nat → Nat → Option Nat} {x : Nat} (hT : jReg shX1 sh x) {a1 : Int32} {a2 : Int32} {X : String → Prop} (hd : decode M.2.1 pc = .ok (.invokevirtual 133, 3)) (hdd : 10 + 1 ≤ d) (hw8 : (rest.map fun v => v.category).sum ≤ 8) (hw : wX1_led x V a1 a2 (fun _ => False) X) (hb : (∀ E, ¬ X E) ∨ 1 ≤ c ∧ 6 ≤ n) (kx : ∀ E, X E → JX G l M d 0 0 pc lv E (mk sh V R) post xp) : J G l M d c n pc lv (.int a2 :: .int a1 :: .ref x :: rest) (mk sh V R) post xp := by
  exact J.callV (c := 0) (n := 0) (c' := c) (n' := n) (As := [.int a1, .int a2]) (hcw := by rw [hM]; exact lw_V q2107 q2108 q2109 q144 q2110) (mX1_led htr hT hw hb) hd rfl ⟨0, _, _, mk_at (hT.at 0 rfl), rfl, rfl, fun _ => rfl⟩ ⟨rfl, by decide, by decide, by show _ = some 2; decide +kernel⟩ hw8 ⟨hdd, by decide⟩ ⟨by omega, by omega⟩ (fun r9 g9 h9 => by obtain ⟨_, _, _, h⟩ := h9; exact h.elim) (fun E9 g9 h9 => by obtain ⟨rfl, h⟩ := h9; exact kx E9 h)
-- VisitingHoursLaw.led(LVisitingHours;IZ[J)I
def wX0_led (x : Nat) (sh : List jH) (V : Nat → Nat → Int32) (R : Nat → Nat → Option Nat) (c : Nat) (n : Nat) (a2 : Int32) (a3 : Int32) (a4 : Nat) (Q : Int32 → List jH → (Nat → Nat → Int32) → (Nat → Nat → Option Nat) → Prop) : Prop :=
  ((wX1_led x V a2 a3 (fun r5 => (∀ y9 : Int64, y9 = r5.toInt64 → (∃ f9 : Nat → Int64, sh[a4]? = some (jF (.inl (3, 1, .inr (.inl f9)))) ∧ jn ≤ a4 ∧ (∀ sh9 : List jH, sh9 = sh.set a4 (jF (.inl (3, 1, .inr (.inl (vp_updL f9 0 y9))))) → (jReg shX1 sh9 x ∧ Q (0 : Int32) sh9 V R))))) (fun _ => False)) ∨ (wX1_led x V a2 a3 (fun _ => False) (fun E9 => ((E9 = "java/lang/IndexOutOfBoundsException" ∧ Q (1 : Int32) sh V R))) ∧ 1 ≤ c ∧ 6 ≤ n))
theorem mX0_led {G : jG} {l : Launch} {d : Nat} (htr : l.stackTraces = false) (hdd : 11 ≤ d) {sh : List jH} {V : Nat → Nat → Int32} {R : Nat → Nat → Option Nat} {c : Nat} {n : Nat} {x : Nat} (hT : jReg shX1 sh x) {a2 : Int32} {a3 : Int32} {a4 : Nat} {Q : Int32 → List jH → (Nat → Nat → Int32) → (Nat → Nat → Option Nat) → Prop} (hw : wX0_led x sh V R c n a2 a3 a4 Q) : JM G l MX0_led d c n [.ref x, .int a2, .int a3, .ref a4] (mk sh V R) (jSr Q) jNo := by
  refine JM.introH (h9 := _) (t9 := _) (by decide) rfl htr (Nat.le_of_ble_eq_true rfl) ?_
  show J G l MX0_led d c n 0 [(0, .ref x), (1, .int a2), (2, .int a3), (3, .ref a4)] [] (mk sh V R) _ _
  unfold wX0_led at hw
  refine J.aload_n 3 dX0_led_0 rfl ?_
  refine J.iconst (v := (0 : Int32)) dX0_led_1 (by decide) ?_
  refine J.aload_n 0 dX0_led_2 rfl ?_
  refine J.iload_n 1 dX0_led_3 rfl ?_
  refine J.iload_n 2 dX0_led_4 rfl ?_
  rcases hw with hw | hw
  rotate_left
  · refine uxX0_133 rfl htr hT dX0_led_5 (by omega) (Nat.le_of_ble_eq_true rfl) hw.1 (Or.inr hw.2) ?_
    clear hw
    intro E9 hw
    obtain ⟨rfl, hw⟩ := hw
    refine JX.catch2 (nm := "java/lang/IndexOutOfBoundsException") (tableOf []) (jent (0, 10, 13, 24)) (tableOf []) rfl (fun _ h => absurd h List.not_mem_nil) (by decide) (by decide) q1637 nw1670 dX0_led_13 (by decide) ?_
    refine J.iconst (v := (1 : Int32)) dX0_led_15 (by decide) ?_
    exact J.iret rfl dX0_led_16 ⟨_, _, _, rfl, _, rfl, hw⟩
  refine uX0_133 rfl htr hT dX0_led_5 (by omega) (Nat.le_of_ble_eq_true rfl) hw ?_
  clear hw
  intro r5 hw
  refine J.i2l dX0_led_8 ?_
  refine J.nmL hw ?_
  clear hw
  intro y9 hw
  obtain ⟨f9, hk9, hn9, hw⟩ := hw
  refine JV.last0 dX0_led_9 hn9 hk9 ?_
  refine J.nms hw ?_
  clear hw
  intro sh9 hw
  clear hT
  obtain ⟨hT, hw⟩ := hw
  refine J.goto 17 dX0_led_10 (by decide) ?_
  refine J.iconst (v := (0 : Int32)) dX0_led_17 (by decide) ?_
  exact J.iret rfl dX0_led_18 ⟨_, _, _, rfl, _, rfl, hw⟩
abbrev MX0_log : jM := (yX0_log, cX0_log, 5, some .int, [(0, 10, 13, 26)])
theorem uX0_136 {G : jG} {l : Launch} {M : jM} {d c n pc : Nat} {lv : List (Nat × Value)} {rest : List Value} {post : Option Value → List jC → Prop} {xp : String → List jC → Prop} (hM : M.1.cls = RX0) (htr : l.stackTraces = false) {sh : List jH} {V : Nat → Nat → Int32} {R : Nat → Nat → Option Nat} {x : Nat} (hT : jReg shX1 sh x) {a1 : Int32} {a2 : Int32} {Q : Int32 → Prop} (hd : decode M.2.1 pc = .ok (.invokevirtual 136, 3)) (hdd : 9 + 1 ≤ d) (hw8 : (rest.map fun v => v.category).sum ≤ 8) (hw : wX1_log x V a1 a2 Q (fun _ => False)) (kk : ∀ r, Q r → J G l M d c n (pc + 3) lv (.int r :: rest) (mk sh V R) post xp) : J G l M d c n pc lv (.int a2 :: .int a1 :: .ref x :: rest) (mk sh V R) post xp := by
  exact J.callV (c' := 0) (n' := 0) (As := [.int a1, .int a2]) (hcw := by rw [hM]; exact lw_V q2118 q2119 q2120 q144 q2121) (mX1_log htr hT hw (Or.inl (fun _ h => h))) hd rfl ⟨0, _, _, mk_at (hT.at 0 rfl), rfl, rfl, fun _ => rfl⟩ ⟨rfl, by decide, by decide, by show _ = some 2; decide +kernel⟩ hw8 ⟨hdd, by decide⟩ jcc0 (fun r9 g9 h9 => by obtain ⟨rfl, r, rfl, h⟩ := h9; exact kk r h) (fun E9 g9 h9 => by obtain ⟨_, h⟩ := h9; exact h.elim)
theorem uxX0_136 {G : jG} {l : Launch} {M : jM} {d c n pc : Nat} {lv : List (Nat × Value)} {rest : List Value} {post : Option Value → List jC → Prop} {xp : String → List jC → Prop} (hM : M.1.cls = RX0) (htr : l.stackTraces = false) {sh : List jH} {V : Nat → Nat → Int32} {R : Nat → Nat → Option Nat} {x : Nat} (hT : jReg shX1 sh x) {a1 : Int32} {a2 : Int32} {X : String → Prop} (hd : decode M.2.1 pc = .ok (.invokevirtual 136, 3)) (hdd : 9 + 1 ≤ d) (hw8 : (rest.map fun v => v.category).sum ≤ 8) (hw : wX1_log x V a1 a2 (fun _ => False) X) (hb : (∀ E, ¬ X E) ∨ 1 ≤ c ∧ 6 ≤ n) (kx : ∀ E, X E → JX G l M d 0 0 pc lv E (mk sh V R) post xp) : J G l M d c n pc lv (.int a2 :: .int a1 :: .ref x :: rest) (mk sh V R) post xp := by
  exact J.callV (c := 0) (n := 0) (c' := c) (n' := n) (As := [.int a1, .int a2]) (hcw := by rw [hM]; exact lw_V q2118 q2119 q2120 q144 q2121) (mX1_log htr hT hw hb) hd rfl ⟨0, _, _, mk_at (hT.at 0 rfl), rfl, rfl, fun _ => rfl⟩ ⟨rfl, by decide, by decide, by show _ = some 2; decide +kernel⟩ hw8 ⟨hdd, by decide⟩ ⟨by omega, by omega⟩ (fun r9 g9 h9 => by obtain ⟨_, _, _, h⟩ := h9; exact h.elim) (fun E9 g9 h9 => by obtain ⟨rfl, h⟩ := h9; exact kx E9 h)
-- VisitingHoursLaw.log(LVisitingHours;II[J)I
def wX0_log (x : Nat) (sh : List jH) (V : Nat → Nat → Int32) (R : Nat → Nat → Option Nat) (c : Nat) (n : Nat) (a2 : Int32) (a3 : Int32) (a4 : Nat) (Q : Int32 → List jH → (Nat → Nat → Int32) → (Nat → Nat → Option Nat) → Prop) : Prop :=
  ((wX1_log x V a2 a3 (fun r5 => (∀ y9 : Int64, y9 = r5.toInt64 → (∃ f9 : Nat → Int64, sh[a4]? = some (jF (.inl (3, 1, .inr (.inl f9)))) ∧ jn ≤ a4 ∧ (∀ sh9 : List jH, sh9 = sh.set a4 (jF (.inl (3, 1, .inr (.inl (vp_updL f9 0 y9))))) → (jReg shX1 sh9 x ∧ Q (0 : Int32) sh9 V R))))) (fun _ => False)) ∨ (wX1_log x V a2 a3 (fun _ => False) (fun E9 => ((E9 = "java/util/NoSuchElementException" ∧ Q (1 : Int32) sh V R))) ∧ 1 ≤ c ∧ 6 ≤ n))
theorem mX0_log {G : jG} {l : Launch} {d : Nat} (htr : l.stackTraces = false) (hdd : 10 ≤ d) {sh : List jH} {V : Nat → Nat → Int32} {R : Nat → Nat → Option Nat} {c : Nat} {n : Nat} {x : Nat} (hT : jReg shX1 sh x) {a2 : Int32} {a3 : Int32} {a4 : Nat} {Q : Int32 → List jH → (Nat → Nat → Int32) → (Nat → Nat → Option Nat) → Prop} (hw : wX0_log x sh V R c n a2 a3 a4 Q) : JM G l MX0_log d c n [.ref x, .int a2, .int a3, .ref a4] (mk sh V R) (jSr Q) jNo := by
  refine JM.introH (h9 := _) (t9 := _) (by decide) rfl htr (Nat.le_of_ble_eq_true rfl) ?_
  show J G l MX0_log d c n 0 [(0, .ref x), (1, .int a2), (2, .int a3), (3, .ref a4)] [] (mk sh V R) _ _
  unfold wX0_log at hw
  refine J.aload_n 3 dX0_log_0 rfl ?_
  refine J.iconst (v := (0 : Int32)) dX0_log_1 (by decide) ?_
  refine J.aload_n 0 dX0_log_2 rfl ?_
  refine J.iload_n 1 dX0_log_3 rfl ?_
  refine J.iload_n 2 dX0_log_4 rfl ?_
  rcases hw with hw | hw
  rotate_left
  · refine uxX0_136 rfl htr hT dX0_log_5 (by omega) (Nat.le_of_ble_eq_true rfl) hw.1 (Or.inr hw.2) ?_
    clear hw
    intro E9 hw
    obtain ⟨rfl, hw⟩ := hw
    refine JX.catch2 (nm := "java/util/NoSuchElementException") (tableOf []) (jent (0, 10, 13, 26)) (tableOf []) rfl (fun _ h => absurd h List.not_mem_nil) (by decide) (by decide) q1656 nw1688 dX0_log_13 (by decide) ?_
    refine J.iconst (v := (1 : Int32)) dX0_log_15 (by decide) ?_
    exact J.iret rfl dX0_log_16 ⟨_, _, _, rfl, _, rfl, hw⟩
  refine uX0_136 rfl htr hT dX0_log_5 (by omega) (Nat.le_of_ble_eq_true rfl) hw ?_
  clear hw
  intro r5 hw
  refine J.i2l dX0_log_8 ?_
  refine J.nmL hw ?_
  clear hw
  intro y9 hw
  obtain ⟨f9, hk9, hn9, hw⟩ := hw
  refine JV.last0 dX0_log_9 hn9 hk9 ?_
  refine J.nms hw ?_
  clear hw
  intro sh9 hw
  clear hT
  obtain ⟨hT, hw⟩ := hw
  refine J.goto 17 dX0_log_10 (by decide) ?_
  refine J.iconst (v := (0 : Int32)) dX0_log_17 (by decide) ?_
  exact J.iret rfl dX0_log_18 ⟨_, _, _, rfl, _, rfl, hw⟩
