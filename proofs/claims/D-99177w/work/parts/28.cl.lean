theorem niX1_285 {G : jG} {l : Launch} {M : jM} {d c n pc : Nat} {lv : List (Nat × Value)} {rest : List Value} {g : List jC} {post : Option Value → List jC → Prop} {xp : String → List jC → Prop} (hM : M.1.cls = RX1) (htr : l.stackTraces = false) {h : Nat} {a1 : Int32} {a2 : Option Nat} {Q : List jC → Prop} (hd : decode M.2.1 pc = .ok (.invokespecial 285, 3)) (hdd : 1 + 1 ≤ d) (hw8 : (rest.map fun v => v.category).sum ≤ 8) (hw : wX15_init g h a1 a2 Q) (kk : ∀ g', Q g' → J G l M d c n (pc + 3) lv rest g' post xp) : J G l M d c n pc lv (va_rf a2 :: .int a1 :: .ref h :: rest) g post xp :=
  J.callI (M' := MX15_init) (As := [.int a1, va_rf a2]) (hcw := lw_meth q1520) (hini := q179) (hlk := by rw [hM]; exact q1518) (hin := q1519) (hret := rfl) (mX15_init htr (Nat.le_refl _) hw) hd rfl rfl ⟨by decide, by decide, by show _ = some 2; decide +kernel⟩ hw8 ⟨hdd, by decide⟩ jcc0 (fun r9 g9 h9 => by obtain ⟨rfl, h⟩ := h9; exact kk g9 h) jNo.x
theorem nrX1_288 {G : jG} {l : Launch} {M : jM} {d c n pc : Nat} {lv : List (Nat × Value)} {rest : List Value} {g : List jC} {post : Option Value → List jC → Prop} {xp : String → List jC → Prop} (hM : M.1.cls = RX1) (htr : l.stackTraces = false) {a1 : Nat} {c1 n1 cq nq : Nat} {Q : Option Nat → List jC → Prop} (hd : decode M.2.1 pc = .ok (.invokestatic 288, 3)) (hdd : 2 + 1 ≤ d) (hw8 : (rest.map fun v => v.category).sum ≤ 8) (hw : wX16_of g c1 n1 a1 Q) (hcc : c1 + c ≤ cq ∧ n1 + n ≤ nq) (kk : ∀ r g', Q r g' → J G l M d c n (pc + 3) lv (va_rf r :: rest) g' post xp) : J G l M d cq nq pc lv (.ref a1 :: rest) g post xp :=
  J.callS (As := [.ref a1]) (hcw := by rw [hM]; exact lw_S q1529 q1530 q180 q1531) (mX16_of htr (Nat.le_refl _) hw) hd rfl ⟨by decide, by decide, by show _ = some 1; decide +kernel⟩ hw8 ⟨hdd, by decide⟩ hcc (fun r9 g9 h9 => by obtain ⟨r, rfl, h⟩ := h9; exact kk r g9 h) jNo.x
abbrev MX1_onePart : jM := (yX1_onePart, cX1_onePart, 2, some (.object "VisitingHours$Part"), [])
theorem uX1_280 {G : jG} {l : Launch} {M : jM} {d c n pc : Nat} {lv : List (Nat × Value)} {rest : List Value} {post : Option Value → List jC → Prop} {xp : String → List jC → Prop} (hM : M.1.cls = RX1) (htr : l.stackTraces = false) {sh : List jH} {V : Nat → Nat → Int32} {R : Nat → Nat → Option Nat} {r : Nat} (hT : jReg shX3 sh r) {Q : Int32 → (Nat → Nat → Int32) → Prop} (hd : decode M.2.1 pc = .ok (.invokevirtual 280, 3)) (hdd : 2 + 1 ≤ d) (hw8 : (rest.map fun v => v.category).sum ≤ 8) (hw : wX3_isFigure r V Q) (kk : ∀ r V', Q r V' → J G l M d c n (pc + 3) lv (.int r :: rest) (mk sh V' R) post xp) : J G l M d c n pc lv (.ref r :: rest) (mk sh V R) post xp := by
  exact J.callV (As := []) (hcw := by rw [hM]; exact lw_V q1512 q1513 q1514 q146 q1515) (mX3_isFigure htr hT hw) hd rfl ⟨2, _, _, mk_at (hT.at 0 rfl), rfl, rfl, fun _ => rfl⟩ ⟨rfl, by decide, by decide, by show _ = some 0; decide +kernel⟩ hw8 ⟨hdd, by decide⟩ jcc0 (fun r9 g9 h9 => by obtain ⟨V9, rfl, r, rfl, h⟩ := h9; exact kk r V9 h) jNo.x
-- VisitingHours.onePart()LVisitingHours$Part;
def wX1_onePart (x : Nat) (sh : List jH) (V : Nat → Nat → Int32) (R : Nat → Nat → Option Nat) (c : Nat) (n : Nat) (Q : Option Nat → List jH → (Nat → Nat → Int32) → (Nat → Nat → Option Nat) → Prop) (X : String → List jH → (Nat → Nat → Int32) → (Nat → Nat → Option Nat) → Prop) : Prop :=
  (wX3_isFigure (x + 109) V (fun r4 V4 => ((r4 = 0 → (∃ c134 n134 c234 n234 : Nat, c134 + c234 ≤ c ∧ n134 + n234 ≤ n ∧ (wX3_word (x + 109) sh V4 R c134 n134 (fun r34 sh34 V34 R34 => (jReg shX1 sh34 x ∧ (∃ b37_1, r34 = some b37_1 ∧ (∃ c137 n137 c237 n237 : Nat, c137 + c237 ≤ c234 ∧ n137 + n237 ≤ n234 ∧ wX16_of (mk sh34 V34 R34) c137 n137 b37_1 (fun r37 g37 => (∃ (sh37 : List jH) (V37 : Nat → Nat → Int32) (R37 : Nat → Nat → Option Nat), g37 = mk sh37 V37 R37 ∧ (jReg shX1 sh37 x ∧ ((r37 = none → (∃ c149 n149 c249 n249 : Nat, c149 + c249 ≤ c237 ∧ n149 + n249 ≤ n237 ∧ (wX3_wrong (x + 109) sh37 V37 R37 c149 n149 (fun r49 sh49 V49 R49 => (jReg shX1 sh49 x ∧ (∃ b52_3, r49 = some b52_3 ∧ (∃ fs52 : List Value, (mk sh49 V49 R49)[b52_3]? = some (.inr (6, fs52)) ∧ jn ≤ b52_3 ∧ X "VisitingHours$Wrong" sh49 V49 R49))))))) ∧ (∀ b42_2, r37 = some b42_2 → (∃ c53 n53, c237 = c53 + 1 ∧ n237 = n53 + 2 ∧ (∀ q53, q53 = sh37.length → (∀ sh53 : List jH, sh53 = sh37 ++ [jF (.inr (13, [.int 0, .null]))] → wX15_init (mk sh53 V37 R37) q53 (0 : Int32) (some b42_2) (fun g59 => (∃ (sh59 : List jH) (V59 : Nat → Nat → Int32) (R59 : Nat → Nat → Option Nat), g59 = mk sh59 V59 R59 ∧ (jReg shX1 sh59 x ∧ Q (some q53) sh59 V59 R59)))))))))))))))))) ∧ (¬ r4 = 0 → (∃ c10 n10, c = c10 + 1 ∧ n = n10 + 2 ∧ (∀ q10, q10 = sh.length → (∀ sh10 : List jH, sh10 = sh ++ [jF (.inr (13, [.int 0, .null]))] → (∃ c122 n122 c222 n222 : Nat, c122 + c222 ≤ c10 ∧ n122 + n222 ≤ n10 ∧ (wX3_number (x + 109) sh10 V4 R c122 n122 (0 : Int32) (999 : Int32) (fun r22 sh22 V22 R22 => (jReg shX1 sh22 x ∧ wX15_init (mk sh22 V22 R22) q10 r22 none (fun g26 => (∃ (sh26 : List jH) (V26 : Nat → Nat → Int32) (R26 : Nat → Nat → Option Nat), g26 = mk sh26 V26 R26 ∧ (jReg shX1 sh26 x ∧ Q (some q10) sh26 V26 R26))))) (fun E9 shx Vx Rx => X E9 shx Vx Rx))))))))))
theorem mX1_onePart {G : jG} {l : Launch} {d : Nat} (htr : l.stackTraces = false) (hdd : 8 ≤ d) {sh : List jH} {V : Nat → Nat → Int32} {R : Nat → Nat → Option Nat} {c : Nat} {n : Nat} {x : Nat} (hT : jReg shX1 sh x) {Q : Option Nat → List jH → (Nat → Nat → Int32) → (Nat → Nat → Option Nat) → Prop} {X : String → List jH → (Nat → Nat → Int32) → (Nat → Nat → Option Nat) → Prop} (hw : wX1_onePart x sh V R c n Q X) : JM G l MX1_onePart d c n [.ref x] (mk sh V R) (jSq Q) (jSx X) := by
  refine JM.intro (by decide) rfl htr (Nat.le_of_ble_eq_true rfl) ?_
  show J G l MX1_onePart d c n 0 [(0, .ref x)] [] (mk sh V R) _ _
  unfold wX1_onePart at hw
  refine J.aload_n 0 dX1_onePart_0 rfl ?_
  refine fgX1_25 rfl hT dX1_onePart_1 ?_
  refine uX1_280 rfl htr (hT.sub 109 2 rfl) dX1_onePart_4 (by omega) (Nat.le_of_ble_eq_true rfl) hw ?_
  clear hw
  intro r4 V4 hw
  refine J.if_eq 30 dX1_onePart_7 (by decide) ⟨fun c7 => ?_, fun c7 => ?_⟩
  · obtain ⟨hw, -⟩ := hw
    specialize hw c7
    refine J.aload_n 0 dX1_onePart_30 rfl ?_
    refine fgX1_25 rfl hT dX1_onePart_31 ?_
    obtain ⟨c134, n134, c234, n234, hc34, hd34, hw⟩ := hw
    refine uX1_86 rfl htr (hT.sub 109 2 rfl) dX1_onePart_34 (by omega) (Nat.le_of_ble_eq_true rfl) hw ⟨hc34, hd34⟩ ?_
    clear hw
    intro r34 sh34 V34 R34 hw
    clear hT
    obtain ⟨hT, hw⟩ := hw
    obtain ⟨b37_1, rfl, hw⟩ := hw
    obtain ⟨c137, n137, c237, n237, hc37, hd37, hw⟩ := hw
    refine nrX1_288 rfl htr dX1_onePart_37 (by omega) (Nat.le_of_ble_eq_true rfl) hw ⟨hc37, hd37⟩ ?_
    clear hw
    intro r37 g37 hw
    obtain ⟨sh37, V37, R37, rfl, hw⟩ := hw
    clear hT
    obtain ⟨hT, hw⟩ := hw
    refine J.astoreQ_n (lv' := [(1, va_rf r37), (0, .ref x)]) dX1_onePart_40 (by decide) rfl ?_
    refine J.aloadQ_n 0 dX1_onePart_41 rfl ?_
    refine J.ifnonnullQ 53 dX1_onePart_42 (by decide) (fun b42_2 e9 => ?_) (fun e9 => ?_)
    · subst e9
      obtain ⟨-, hw⟩ := hw
      specialize hw _ rfl
      obtain ⟨c53, n53, rfl, rfl, hw⟩ := hw
      refine J.new (C := RX15) (T0 := TX15) (N := 2) [.int 0, .null] dX1_onePart_53 (ci := 13) rfl in_X15 tyX15 tyX15_ok q1516 q1517 q179 rfl (fun _ => rfl) ?_
      rw [mk_len]
      refine J.nmr hw ?_
      clear hw
      intro q53 hw
      rw [mk_pushF]
      refine J.nmsE (fun sh53 e53 => ?_)
      specialize hw sh53 e53
      replace hT := jReg.apE hT e53
      refine J.dup dX1_onePart_56 rfl ?_
      refine J.iconst (v := (0 : Int32)) dX1_onePart_57 (by decide) ?_
      refine J.aload_n 0 dX1_onePart_58 rfl ?_
      refine niX1_285 rfl htr dX1_onePart_59 (by omega) (Nat.le_of_ble_eq_true rfl) hw ?_
      clear hw
      intro g59 hw
      obtain ⟨sh59, V59, R59, rfl, hw⟩ := hw
      clear hT
      obtain ⟨hT, hw⟩ := hw
      exact J.aret rfl (Or.inl ⟨_, rfl⟩) (va_rf_nr (some q53)) dX1_onePart_62 ⟨_, _, _, rfl, _, rfl, hw⟩
    · subst e9
      obtain ⟨hw, -⟩ := hw
      specialize hw rfl
      refine J.aload_n 1 dX1_onePart_45 rfl ?_
      refine fgX1_25 rfl hT dX1_onePart_46 ?_
      obtain ⟨c149, n149, c249, n249, hc49, hd49, hw⟩ := hw
      refine uX1_96 rfl htr (hT.sub 109 2 rfl) dX1_onePart_49 (by omega) (Nat.le_of_ble_eq_true rfl) hw ⟨hc49, hd49⟩ ?_
      clear hw
      intro r49 sh49 V49 R49 hw
      clear hT
      obtain ⟨hT, hw⟩ := hw
      obtain ⟨b52_3, rfl, hw⟩ := hw
      obtain ⟨fs52, hk52, hn52, hw⟩ := hw
      exact J.athrow dX1_onePart_52 hn52 hk52 rfl rfl (JX.out (by rfl) ⟨_, _, _, rfl, hw⟩)
  · obtain ⟨-, hw⟩ := hw
    specialize hw c7
    obtain ⟨c10, n10, rfl, rfl, hw⟩ := hw
    refine J.new (C := RX15) (T0 := TX15) (N := 2) [.int 0, .null] dX1_onePart_10 (ci := 13) rfl in_X15 tyX15 tyX15_ok q1516 q1517 q179 rfl (fun _ => rfl) ?_
    rw [mk_len]
    refine J.nmr hw ?_
    clear hw
    intro q10 hw
    rw [mk_pushF]
    refine J.nmsE (fun sh10 e10 => ?_)
    specialize hw sh10 e10
    replace hT := jReg.apE hT e10
    refine J.dup dX1_onePart_13 rfl ?_
    refine J.aload_n 0 dX1_onePart_14 rfl ?_
    refine fgX1_25 rfl hT dX1_onePart_15 ?_
    refine J.iconst (v := (0 : Int32)) dX1_onePart_18 (by decide) ?_
    refine J.sipush (v := (999 : Int32)) dX1_onePart_19 (by decide) ?_
    obtain ⟨c122, n122, c222, n222, hc22, hd22, hw⟩ := hw
    refine uX1_104 rfl htr (hT.sub 109 2 rfl) dX1_onePart_22 (by omega) (Nat.le_of_ble_eq_true rfl) hw ⟨hc22, hd22⟩ ?_ ?_
    rotate_left
    · exact fun E9 shx Vx Rx h9 => JX.out (by rfl) ⟨_, _, _, rfl, h9⟩
    clear hw
    intro r22 sh22 V22 R22 hw
    clear hT
    obtain ⟨hT, hw⟩ := hw
    refine J.null dX1_onePart_25 ?_
    refine niX1_285 rfl htr dX1_onePart_26 (by omega) (Nat.le_of_ble_eq_true rfl) hw ?_
    clear hw
    intro g26 hw
    obtain ⟨sh26, V26, R26, rfl, hw⟩ := hw
    clear hT
    obtain ⟨hT, hw⟩ := hw
    exact J.aret rfl (Or.inl ⟨_, rfl⟩) (va_rf_nr (some q10)) dX1_onePart_29 ⟨_, _, _, rfl, _, rfl, hw⟩
theorem niX1_296 {G : jG} {l : Launch} {M : jM} {d c n pc : Nat} {lv : List (Nat × Value)} {rest : List Value} {g : List jC} {post : Option Value → List jC → Prop} {xp : String → List jC → Prop} (hM : M.1.cls = RX1) (htr : l.stackTraces = false) {h : Nat} {c1 n1 cq nq : Nat} {Q : List jC → Prop} (hd : decode M.2.1 pc = .ok (.invokespecial 296, 3)) (hdd : 4 + 1 ≤ d) (hw8 : (rest.map fun v => v.category).sum ≤ 8) (hw : wX14_init g c1 n1 h Q) (hcc : c1 + c ≤ cq ∧ n1 + n ≤ nq) (kk : ∀ g', Q g' → J G l M d c n (pc + 3) lv rest g' post xp) : J G l M d cq nq pc lv (.ref h :: rest) g post xp :=
  J.callIN (M' := MX14_init) (As := []) (hcw := lw_meth q1499) (hlk := by rw [hM]; exact nw1497) (hini := q178) (hin := q1498) (hret := rfl) (mX14_init htr (Nat.le_refl _) hw) hd rfl rfl ⟨by decide, by decide, by show _ = some 0; decide +kernel⟩ hw8 ⟨hdd, by decide⟩ hcc (fun r9 g9 h9 => by obtain ⟨rfl, h⟩ := h9; exact kk g9 h) jNo.x
theorem nrX1_304 {G : jG} {l : Launch} {M : jM} {d c n pc : Nat} {lv : List (Nat × Value)} {rest : List Value} {g : List jC} {post : Option Value → List jC → Prop} {xp : String → List jC → Prop} (hM : M.1.cls = RX1) (htr : l.stackTraces = false) {h : Nat} {a1 : Nat} {c1 n1 cq nq : Nat} {fs9 : List Value} (hk9 : g[h]? = some (.inr (15, fs9))) {Q : Int32 → List jC → Prop} (hd : decode M.2.1 pc = .ok (.invokevirtual 304, 3)) (hdd : 7 + 1 ≤ d) (hw8 : (rest.map fun v => v.category).sum ≤ 8) (hw : wJ2_add g c1 n1 h a1 Q) (hcc : c1 + c ≤ cq ∧ n1 + n ≤ nq) (kk : ∀ r g', Q r g' → J G l M d c n (pc + 3) lv (.int r :: rest) g' post xp) : J G l M d cq nq pc lv (.ref a1 :: .ref h :: rest) g post xp :=
  J.callV (As := [.ref a1]) (hcw := by rw [hM]; exact lw_V q1544 q1545 q1546 q150 q1547) (mJ2_add htr (Nat.le_refl _) hw) hd rfl ⟨15, _, _, hk9, rfl, rfl, fun _ => rfl⟩ ⟨rfl, by decide, by decide, by show _ = some 1; decide +kernel⟩ hw8 ⟨hdd, by decide⟩ hcc (fun r9 g9 h9 => by obtain ⟨r, rfl, h⟩ := h9; exact kk r g9 h) jNo.x
abbrev MX1_sum : jM := (yX1_sum, cX1_sum, 2, some (.object "VisitingHours$Sum"), [])
theorem uX1_300 {G : jG} {l : Launch} {M : jM} {d c n pc : Nat} {lv : List (Nat × Value)} {rest : List Value} {post : Option Value → List jC → Prop} {xp : String → List jC → Prop} (hM : M.1.cls = RX1) (htr : l.stackTraces = false) {sh : List jH} {V : Nat → Nat → Int32} {R : Nat → Nat → Option Nat} {x : Nat} (hT : jReg shX1 sh x) {c1 n1 cq nq : Nat} {Q : Option Nat → List jH → (Nat → Nat → Int32) → (Nat → Nat → Option Nat) → Prop} {X : String → List jH → (Nat → Nat → Int32) → (Nat → Nat → Option Nat) → Prop} (hd : decode M.2.1 pc = .ok (.invokevirtual 300, 3)) (hdd : 8 + 1 ≤ d) (hw8 : (rest.map fun v => v.category).sum ≤ 8) (hw : wX1_onePart x sh V R c1 n1 Q X) (hcc : c1 + c ≤ cq ∧ n1 + n ≤ nq) (kk : ∀ r sh' V' R', Q r sh' V' R' → J G l M d c n (pc + 3) lv (va_rf r :: rest) (mk sh' V' R') post xp) (kx : ∀ E sh' V' R', X E sh' V' R' → JX G l M d c n pc lv E (mk sh' V' R') post xp) : J G l M d cq nq pc lv (.ref x :: rest) (mk sh V R) post xp := by
  exact J.callV (As := []) (hcw := by rw [hM]; exact lw_V q1508 q1510 qs38 q144 q1511) (mX1_onePart htr (Nat.le_refl _) hT hw) hd rfl ⟨0, _, _, mk_at (hT.at 0 rfl), rfl, rfl, fun _ => rfl⟩ ⟨rfl, by decide, by decide, by show _ = some 0; decide +kernel⟩ hw8 ⟨hdd, by decide⟩ hcc (fun r9 g9 h9 => by obtain ⟨s9, V9, R9, rfl, r, rfl, h⟩ := h9; exact kk r s9 V9 R9 h) (fun E9 g9 h9 => by obtain ⟨s9, V9, R9, rfl, h⟩ := h9; exact kx E9 s9 V9 R9 h)
-- VisitingHours.sum()LVisitingHours$Sum;
def wX1_sum_8 (x : Nat) (Q : Option Nat → List jH → (Nat → Nat → Int32) → (Nat → Nat → Option Nat) → Prop) (X : String → List jH → (Nat → Nat → Int32) → (Nat → Nat → Option Nat) → Prop) : Nat → List jH → (Nat → Nat → Int32) → (Nat → Nat → Option Nat) → Nat → Nat → Nat → Prop
  | 0, _, _, _, _, _, _ => False
  | f + 1, sh, V, R, c, n, x1 =>
    (∃ fs9 : List Value, (mk sh V R)[x1]? = some (.inr (12, fs9)) ∧ jn ≤ x1 ∧ ∃ v9 : Option Nat, fs9[0]? = some (va_rf v9) ∧ (∃ c113 n113 c213 n213 : Nat, c113 + c213 ≤ c ∧ n113 + n213 ≤ n ∧ (wX1_onePart x sh V R c113 n113 (fun r13 sh13 V13 R13 => (jReg shX1 sh13 x ∧ (∃ b16_1, r13 = some b16_1 ∧ (∃ b16_2, v9 = some b16_2 ∧ (∃ fs16 : List Value, (mk sh13 V13 R13)[b16_2]? = some (.inr (15, fs16)) ∧ (∃ c116 n116 c216 n216 : Nat, c116 + c216 ≤ c213 ∧ n116 + n216 ≤ n213 ∧ wJ2_add (mk sh13 V13 R13) c116 n116 b16_2 b16_1 (fun r16 g16 => (∃ (sh16 : List jH) (V16 : Nat → Nat → Int32) (R16 : Nat → Nat → Option Nat), g16 = mk sh16 V16 R16 ∧ (jReg shX1 sh16 x ∧ (wX3_sign (x + 109) V16 (43 : Int32) (fun r26 V26 => ((¬ r26 = 0 → wX1_sum_8 x Q X f sh16 V26 R16 c216 n216 x1) ∧ (r26 = 0 → Q (some x1) sh16 V26 R16))))))))))))) (fun E9 shx Vx Rx => X E9 shx Vx Rx))))
theorem rX1_sum_8 {G : jG} {l : Launch} {d : Nat} (htr : l.stackTraces = false) (hdd : 9 ≤ d) {x : Nat} {Q : Option Nat → List jH → (Nat → Nat → Int32) → (Nat → Nat → Option Nat) → Prop} {X : String → List jH → (Nat → Nat → Int32) → (Nat → Nat → Option Nat) → Prop} : ∀ (f : Nat) (sh : List jH) (V : Nat → Nat → Int32) (R : Nat → Nat → Option Nat) (c : Nat) (n : Nat) (x1 : Nat) (hT : jReg shX1 sh x), wX1_sum_8 x Q X f sh V R c n x1 → J G l MX1_sum d c n 8 [(0, .ref x), (1, .ref x1)] [] (mk sh V R) (jSq Q) (jSx X) := by
  intro f
  induction f with
  | zero =>
    intro sh V R c n x1 hT hw
    rw [wX1_sum_8] at hw
    exact hw.elim
  | succ f ih =>
    intro sh V R c n x1 hT hw
    rw [wX1_sum_8] at hw
    refine J.aload_n 1 dX1_sum_8 rfl ?_
    obtain ⟨fs9, hk9, hn9, v9, hv9, hw⟩ := hw
    refine J.getfN (C := RX14) (T0 := TX14) (N := 1) 0 dX1_sum_9 hn9 hk9 rfl in_X14 (by decide) nw1504 hv9 ?_
    refine J.aload_n 0 dX1_sum_12 rfl ?_
    obtain ⟨c113, n113, c213, n213, hc13, hd13, hw⟩ := hw
    refine uX1_300 rfl htr hT dX1_sum_13 (by omega) (by cases v9 <;> exact Nat.le_of_ble_eq_true rfl) hw ⟨hc13, hd13⟩ ?_ ?_
    rotate_left
    · exact fun E9 shx Vx Rx h9 => JX.out (by rfl) ⟨_, _, _, rfl, h9⟩
    clear hw
    intro r13 sh13 V13 R13 hw
    clear hT
    obtain ⟨hT, hw⟩ := hw
    obtain ⟨b16_1, rfl, hw⟩ := hw
    obtain ⟨b16_2, rfl, hw⟩ := hw
    obtain ⟨fs16, hk16, hw⟩ := hw
    obtain ⟨c116, n116, c216, n216, hc16, hd16, hw⟩ := hw
    refine nrX1_304 rfl htr hk16 dX1_sum_16 (by omega) (Nat.le_of_ble_eq_true rfl) hw ⟨hc16, hd16⟩ ?_
    clear hw
    intro r16 g16 hw
    obtain ⟨sh16, V16, R16, rfl, hw⟩ := hw
    clear hT
    obtain ⟨hT, hw⟩ := hw
    refine J.pop dX1_sum_19 rfl ?_
    refine J.aload_n 0 dX1_sum_20 rfl ?_
    refine fgX1_25 rfl hT dX1_sum_21 ?_
    refine J.bipush (v := (43 : Int32)) dX1_sum_24 (by decide) ?_
    refine uX1_247 rfl htr (hT.sub 109 2 rfl) dX1_sum_26 (by omega) (Nat.le_of_ble_eq_true rfl) hw ?_
    clear hw
    intro r26 V26 hw
    refine J.if_ne 8 dX1_sum_29 (by decide) ⟨fun c29 => ?_, fun c29 => ?_⟩
    · obtain ⟨hw, -⟩ := hw
      specialize hw c29
      exact (ih _ _ _ _ _ _ hT hw)
    · obtain ⟨-, hw⟩ := hw
      specialize hw c29
      refine J.aload_n 1 dX1_sum_32 rfl ?_
      exact J.aret rfl (Or.inl ⟨_, rfl⟩) (va_rf_nr (some x1)) dX1_sum_33 ⟨_, _, _, rfl, _, rfl, hw⟩
def wX1_sum (x : Nat) (sh : List jH) (V : Nat → Nat → Int32) (R : Nat → Nat → Option Nat) (c : Nat) (n : Nat) (Q : Option Nat → List jH → (Nat → Nat → Int32) → (Nat → Nat → Option Nat) → Prop) (X : String → List jH → (Nat → Nat → Int32) → (Nat → Nat → Option Nat) → Prop) : Prop :=
  (∃ c0 n0, c = c0 + 1 ∧ n = n0 + 1 ∧ (∀ q0, q0 = sh.length → (∀ sh0 : List jH, sh0 = sh ++ [jF (.inr (12, [.null]))] → (∃ c14 n14 c24 n24 : Nat, c14 + c24 ≤ c0 ∧ n14 + n24 ≤ n0 ∧ wX14_init (mk sh0 V R) c14 n14 q0 (fun g4 => (∃ (sh4 : List jH) (V4 : Nat → Nat → Int32) (R4 : Nat → Nat → Option Nat), g4 = mk sh4 V4 R4 ∧ (jReg shX1 sh4 x ∧ (∃ f9, wX1_sum_8 x Q X f9 sh4 V4 R4 c24 n24 q0))))))))
theorem mX1_sum {G : jG} {l : Launch} {d : Nat} (htr : l.stackTraces = false) (hdd : 9 ≤ d) {sh : List jH} {V : Nat → Nat → Int32} {R : Nat → Nat → Option Nat} {c : Nat} {n : Nat} {x : Nat} (hT : jReg shX1 sh x) {Q : Option Nat → List jH → (Nat → Nat → Int32) → (Nat → Nat → Option Nat) → Prop} {X : String → List jH → (Nat → Nat → Int32) → (Nat → Nat → Option Nat) → Prop} (hw : wX1_sum x sh V R c n Q X) : JM G l MX1_sum d c n [.ref x] (mk sh V R) (jSq Q) (jSx X) := by
  refine JM.intro (by decide) rfl htr (Nat.le_of_ble_eq_true rfl) ?_
  show J G l MX1_sum d c n 0 [(0, .ref x)] [] (mk sh V R) _ _
  unfold wX1_sum at hw
  obtain ⟨c0, n0, rfl, rfl, hw⟩ := hw
  refine J.new (C := RX14) (T0 := TX14) (N := 1) [.null] dX1_sum_0 (ci := 12) rfl in_X14 tyX14 tyX14_ok q1495 q1496 q178 rfl (fun _ => rfl) ?_
  rw [mk_len]
  refine J.nmr hw ?_
  clear hw
  intro q0 hw
  rw [mk_pushF]
  refine J.nmsE (fun sh0 e0 => ?_)
  specialize hw sh0 e0
  replace hT := jReg.apE hT e0
  refine J.dup dX1_sum_3 rfl ?_
  obtain ⟨c14, n14, c24, n24, hc4, hd4, hw⟩ := hw
  refine niX1_296 rfl htr dX1_sum_4 (by omega) (Nat.le_of_ble_eq_true rfl) hw ⟨hc4, hd4⟩ ?_
  clear hw
  intro g4 hw
  obtain ⟨sh4, V4, R4, rfl, hw⟩ := hw
  clear hT
  obtain ⟨hT, hw⟩ := hw
  refine J.astore_n (lv' := [(1, .ref q0), (0, .ref x)]) dX1_sum_7 (by decide) rfl ?_
  obtain ⟨f9, hw⟩ := hw
  exact J.pick [1, 0] rfl (rX1_sum_8 htr hdd f9 _ _ _ _ _ _ hT hw)
theorem niX1_345 {G : jG} {l : Launch} {M : jM} {d c n pc : Nat} {lv : List (Nat × Value)} {rest : List Value} {g : List jC} {post : Option Value → List jC → Prop} {xp : String → List jC → Prop} (hM : M.1.cls = RX1) (htr : l.stackTraces = false) {h : Nat} {a1 : Int32} {c1 n1 cq nq : Nat} {Q : List jC → Prop} (hd : decode M.2.1 pc = .ok (.invokespecial 345, 3)) (hdd : 4 + 1 ≤ d) (hw8 : (rest.map fun v => v.category).sum ≤ 8) (hw : wX11_init g c1 n1 h a1 Q) (hcc : c1 + c ≤ cq ∧ n1 + n ≤ nq) (kk : ∀ g', Q g' → J G l M d c n (pc + 3) lv rest g' post xp) : J G l M d cq nq pc lv (.int a1 :: .ref h :: rest) g post xp :=
  J.callI (M' := MX11_init) (As := [.int a1]) (hcw := lw_meth q1440) (hini := q175) (hlk := by rw [hM]; exact q1438) (hin := q1439) (hret := rfl) (mX11_init htr (Nat.le_refl _) hw) hd rfl rfl ⟨by decide, by decide, by show _ = some 1; decide +kernel⟩ hw8 ⟨hdd, by decide⟩ hcc (fun r9 g9 h9 => by obtain ⟨rfl, h⟩ := h9; exact kk g9 h) jNo.x
abbrev MX1_atom : jM := (yX1_atom, cX1_atom, 3, some (.object "VisitingHours$Cond"), [])
abbrev MX1_allOf : jM := (yX1_allOf, cX1_allOf, 2, some (.object "VisitingHours$Cond"), [])
theorem uX1_317_X1_allOf {G : jG} {l : Launch} {M : jM} {d c n pc : Nat} {lv : List (Nat × Value)} {rest : List Value} {post : Option Value → List jC → Prop} {xp : String → List jC → Prop} (hM : M.1.cls = RX1) (htr : l.stackTraces = false) {sh : List jH} {V : Nat → Nat → Int32} {R : Nat → Nat → Option Nat} {x : Nat} (hT : jReg shX1 sh x) {REC : List jH → (Nat → Nat → Int32) → (Nat → Nat → Option Nat) → Nat → Nat → (Option Nat → List jH → (Nat → Nat → Int32) → (Nat → Nat → Option Nat) → Prop) → (String → List jH → (Nat → Nat → Int32) → (Nat → Nat → Option Nat) → Prop) → Prop} {dr : Nat} (hdr : dr + 1 ≤ d) (hREC : ∀ {sh : List jH} {V : Nat → Nat → Int32} {R : Nat → Nat → Option Nat} {c : Nat} {n : Nat} {Q : Option Nat → List jH → (Nat → Nat → Int32) → (Nat → Nat → Option Nat) → Prop} {X : String → List jH → (Nat → Nat → Int32) → (Nat → Nat → Option Nat) → Prop}, jReg shX1 sh x → REC sh V R c n Q X → JM G l MX1_atom dr c n [.ref x] (mk sh V R) (jSq Q) (jSx X)) {c1 n1 cq nq : Nat} {Q : Option Nat → List jH → (Nat → Nat → Int32) → (Nat → Nat → Option Nat) → Prop} {X : String → List jH → (Nat → Nat → Int32) → (Nat → Nat → Option Nat) → Prop} (hd : decode M.2.1 pc = .ok (.invokevirtual 317, 3))  (hw8 : (rest.map fun v => v.category).sum ≤ 8) (hw : REC sh V R c1 n1 Q X) (hcc : c1 + c ≤ cq ∧ n1 + n ≤ nq) (kk : ∀ r sh' V' R', Q r sh' V' R' → J G l M d c n (pc + 3) lv (va_rf r :: rest) (mk sh' V' R') post xp) (kx : ∀ E sh' V' R', X E sh' V' R' → JX G l M d c n pc lv E (mk sh' V' R') post xp) : J G l M d cq nq pc lv (.ref x :: rest) (mk sh V R) post xp := by
  exact J.callV (As := []) (hcw := by rw [hM]; exact lw_V q1456 q1458 qs36 q144 q1459) (hREC hT hw) hd rfl ⟨0, _, _, mk_at (hT.at 0 rfl), rfl, rfl, fun _ => rfl⟩ ⟨rfl, by decide, by decide, by show _ = some 0; decide +kernel⟩ hw8 ⟨hdr, by decide⟩ hcc (fun r9 g9 h9 => by obtain ⟨s9, V9, R9, rfl, r, rfl, h⟩ := h9; exact kk r s9 V9 R9 h) (fun E9 g9 h9 => by obtain ⟨s9, V9, R9, rfl, h⟩ := h9; exact kx E9 s9 V9 R9 h)
-- VisitingHours.allOf()LVisitingHours$Cond;
def wX1_allOf_9 (x : Nat) (REC : List jH → (Nat → Nat → Int32) → (Nat → Nat → Option Nat) → Nat → Nat → (Option Nat → List jH → (Nat → Nat → Int32) → (Nat → Nat → Option Nat) → Prop) → (String → List jH → (Nat → Nat → Int32) → (Nat → Nat → Option Nat) → Prop) → Prop) (Q : Option Nat → List jH → (Nat → Nat → Int32) → (Nat → Nat → Option Nat) → Prop) (X : String → List jH → (Nat → Nat → Int32) → (Nat → Nat → Option Nat) → Prop) : Nat → List jH → (Nat → Nat → Int32) → (Nat → Nat → Option Nat) → Nat → Nat → Nat → Prop
  | 0, _, _, _, _, _, _ => False
  | f + 1, sh, V, R, c, n, x1 =>
    (∃ fs10 : List Value, (mk sh V R)[x1]? = some (.inr (9, fs10)) ∧ jn ≤ x1 ∧ ∃ v10 : Option Nat, fs10[1]? = some (va_rf v10) ∧ (∃ c114 n114 c214 n214 : Nat, c114 + c214 ≤ c ∧ n114 + n214 ≤ n ∧ (REC sh V R c114 n114 (fun r14 sh14 V14 R14 => (jReg shX1 sh14 x ∧ (∃ b17_1, r14 = some b17_1 ∧ (∃ b17_2, v10 = some b17_2 ∧ (∃ fs17 : List Value, (mk sh14 V14 R14)[b17_2]? = some (.inr (15, fs17)) ∧ (∃ c117 n117 c217 n217 : Nat, c117 + c217 ≤ c214 ∧ n117 + n217 ≤ n214 ∧ wJ2_add (mk sh14 V14 R14) c117 n117 b17_2 b17_1 (fun r17 g17 => (∃ (sh17 : List jH) (V17 : Nat → Nat → Int32) (R17 : Nat → Nat → Option Nat), g17 = mk sh17 V17 R17 ∧ (jReg shX1 sh17 x ∧ (∃ c128 n128 c228 n228 : Nat, c128 + c228 ≤ c217 ∧ n128 + n228 ≤ n217 ∧ (wX3_passes (x + 109) sh17 V17 R17 c128 n128 34 (fun r28 sh28 V28 R28 => (jReg shX1 sh28 x ∧ ((¬ r28 = 0 → wX1_allOf_9 x REC Q X f sh28 V28 R28 c228 n228 x1) ∧ (r28 = 0 → Q (some x1) sh28 V28 R28))))))))))))))) (fun E9 shx Vx Rx => X E9 shx Vx Rx))))
theorem rX1_allOf_9 {G : jG} {l : Launch} {d : Nat} (htr : l.stackTraces = false) (hdd : 9 ≤ d) {x : Nat} {REC : List jH → (Nat → Nat → Int32) → (Nat → Nat → Option Nat) → Nat → Nat → (Option Nat → List jH → (Nat → Nat → Int32) → (Nat → Nat → Option Nat) → Prop) → (String → List jH → (Nat → Nat → Int32) → (Nat → Nat → Option Nat) → Prop) → Prop} {dr : Nat} (hdr : dr + 1 ≤ d) (hREC : ∀ {sh : List jH} {V : Nat → Nat → Int32} {R : Nat → Nat → Option Nat} {c : Nat} {n : Nat} {Q : Option Nat → List jH → (Nat → Nat → Int32) → (Nat → Nat → Option Nat) → Prop} {X : String → List jH → (Nat → Nat → Int32) → (Nat → Nat → Option Nat) → Prop}, jReg shX1 sh x → REC sh V R c n Q X → JM G l MX1_atom dr c n [.ref x] (mk sh V R) (jSq Q) (jSx X)) {Q : Option Nat → List jH → (Nat → Nat → Int32) → (Nat → Nat → Option Nat) → Prop} {X : String → List jH → (Nat → Nat → Int32) → (Nat → Nat → Option Nat) → Prop} : ∀ (f : Nat) (sh : List jH) (V : Nat → Nat → Int32) (R : Nat → Nat → Option Nat) (c : Nat) (n : Nat) (x1 : Nat) (hT : jReg shX1 sh x), wX1_allOf_9 x REC Q X f sh V R c n x1 → J G l MX1_allOf d c n 9 [(0, .ref x), (1, .ref x1)] [] (mk sh V R) (jSq Q) (jSx X) := by
  intro f
  induction f with
  | zero =>
    intro sh V R c n x1 hT hw
    rw [wX1_allOf_9] at hw
    exact hw.elim
  | succ f ih =>
    intro sh V R c n x1 hT hw
    rw [wX1_allOf_9] at hw
    refine J.aload_n 1 dX1_allOf_9 rfl ?_
    obtain ⟨fs10, hk10, hn10, v10, hv10, hw⟩ := hw
    refine J.getfN (C := RX11) (T0 := TX11) (N := 2) 1 dX1_allOf_10 hn10 hk10 rfl in_X11 (by decide) nw1446 hv10 ?_
    refine J.aload_n 0 dX1_allOf_13 rfl ?_
    obtain ⟨c114, n114, c214, n214, hc14, hd14, hw⟩ := hw
    refine uX1_317_X1_allOf rfl htr hT (by omega) hREC dX1_allOf_14 (by cases v10 <;> exact Nat.le_of_ble_eq_true rfl) hw ⟨hc14, hd14⟩ ?_ ?_
    rotate_left
    · exact fun E9 shx Vx Rx h9 => JX.out (by rfl) ⟨_, _, _, rfl, h9⟩
    clear hw
    intro r14 sh14 V14 R14 hw
    clear hT
    obtain ⟨hT, hw⟩ := hw
    obtain ⟨b17_1, rfl, hw⟩ := hw
    obtain ⟨b17_2, rfl, hw⟩ := hw
    obtain ⟨fs17, hk17, hw⟩ := hw
    obtain ⟨c117, n117, c217, n217, hc17, hd17, hw⟩ := hw
    refine nrX1_304 rfl htr hk17 dX1_allOf_17 (by omega) (Nat.le_of_ble_eq_true rfl) hw ⟨hc17, hd17⟩ ?_
    clear hw
    intro r17 g17 hw
    obtain ⟨sh17, V17, R17, rfl, hw⟩ := hw
    clear hT
    obtain ⟨hT, hw⟩ := hw
    refine J.pop dX1_allOf_20 rfl ?_
    refine J.aload_n 0 dX1_allOf_21 rfl ?_
    refine fgX1_25 rfl hT dX1_allOf_22 ?_
    refine J.ldcwS dX1_allOf_25 jl_1616 (by decide) ?_
    obtain ⟨c128, n128, c228, n228, hc28, hd28, hw⟩ := hw
    refine uX1_182 rfl htr (hT.sub 109 2 rfl) dX1_allOf_28 (by omega) (Nat.le_of_ble_eq_true rfl) hw ⟨hc28, hd28⟩ ?_
    clear hw
    intro r28 sh28 V28 R28 hw
    clear hT
    obtain ⟨hT, hw⟩ := hw
    refine J.if_ne 9 dX1_allOf_31 (by decide) ⟨fun c31 => ?_, fun c31 => ?_⟩
    · obtain ⟨hw, -⟩ := hw
      specialize hw c31
      exact (ih _ _ _ _ _ _ hT hw)
    · obtain ⟨-, hw⟩ := hw
      specialize hw c31
      refine J.aload_n 1 dX1_allOf_34 rfl ?_
      exact J.aret rfl (Or.inl ⟨_, rfl⟩) (va_rf_nr (some x1)) dX1_allOf_35 ⟨_, _, _, rfl, _, rfl, hw⟩
def wX1_allOf (x : Nat) (REC : List jH → (Nat → Nat → Int32) → (Nat → Nat → Option Nat) → Nat → Nat → (Option Nat → List jH → (Nat → Nat → Int32) → (Nat → Nat → Option Nat) → Prop) → (String → List jH → (Nat → Nat → Int32) → (Nat → Nat → Option Nat) → Prop) → Prop) (sh : List jH) (V : Nat → Nat → Int32) (R : Nat → Nat → Option Nat) (c : Nat) (n : Nat) (Q : Option Nat → List jH → (Nat → Nat → Int32) → (Nat → Nat → Option Nat) → Prop) (X : String → List jH → (Nat → Nat → Int32) → (Nat → Nat → Option Nat) → Prop) : Prop :=
  (∃ c0 n0, c = c0 + 1 ∧ n = n0 + 2 ∧ (∀ q0, q0 = sh.length → (∀ sh0 : List jH, sh0 = sh ++ [jF (.inr (9, [.int 0, .null]))] → (∃ c15 n15 c25 n25 : Nat, c15 + c25 ≤ c0 ∧ n15 + n25 ≤ n0 ∧ wX11_init (mk sh0 V R) c15 n15 q0 (1 : Int32) (fun g5 => (∃ (sh5 : List jH) (V5 : Nat → Nat → Int32) (R5 : Nat → Nat → Option Nat), g5 = mk sh5 V5 R5 ∧ (jReg shX1 sh5 x ∧ (∃ f9, wX1_allOf_9 x REC Q X f9 sh5 V5 R5 c25 n25 q0))))))))
theorem mX1_allOf {G : jG} {l : Launch} {d : Nat} (htr : l.stackTraces = false) (hdd : 9 ≤ d) {sh : List jH} {V : Nat → Nat → Int32} {R : Nat → Nat → Option Nat} {c : Nat} {n : Nat} {x : Nat} (hT : jReg shX1 sh x) {REC : List jH → (Nat → Nat → Int32) → (Nat → Nat → Option Nat) → Nat → Nat → (Option Nat → List jH → (Nat → Nat → Int32) → (Nat → Nat → Option Nat) → Prop) → (String → List jH → (Nat → Nat → Int32) → (Nat → Nat → Option Nat) → Prop) → Prop} {dr : Nat} (hdr : dr + 1 ≤ d) (hREC : ∀ {sh : List jH} {V : Nat → Nat → Int32} {R : Nat → Nat → Option Nat} {c : Nat} {n : Nat} {Q : Option Nat → List jH → (Nat → Nat → Int32) → (Nat → Nat → Option Nat) → Prop} {X : String → List jH → (Nat → Nat → Int32) → (Nat → Nat → Option Nat) → Prop}, jReg shX1 sh x → REC sh V R c n Q X → JM G l MX1_atom dr c n [.ref x] (mk sh V R) (jSq Q) (jSx X)) {Q : Option Nat → List jH → (Nat → Nat → Int32) → (Nat → Nat → Option Nat) → Prop} {X : String → List jH → (Nat → Nat → Int32) → (Nat → Nat → Option Nat) → Prop} (hw : wX1_allOf x REC sh V R c n Q X) : JM G l MX1_allOf d c n [.ref x] (mk sh V R) (jSq Q) (jSx X) := by
  refine JM.intro (by decide) rfl htr (Nat.le_of_ble_eq_true rfl) ?_
  show J G l MX1_allOf d c n 0 [(0, .ref x)] [] (mk sh V R) _ _
  unfold wX1_allOf at hw
  obtain ⟨c0, n0, rfl, rfl, hw⟩ := hw
  refine J.new (C := RX11) (T0 := TX11) (N := 2) [.int 0, .null] dX1_allOf_0 (ci := 9) rfl in_X11 tyX11 tyX11_ok q1436 q1437 q175 rfl (fun _ => rfl) ?_
  rw [mk_len]
  refine J.nmr hw ?_
  clear hw
  intro q0 hw
  rw [mk_pushF]
  refine J.nmsE (fun sh0 e0 => ?_)
  specialize hw sh0 e0
  replace hT := jReg.apE hT e0
  refine J.dup dX1_allOf_3 rfl ?_
  refine J.iconst (v := (1 : Int32)) dX1_allOf_4 (by decide) ?_
  obtain ⟨c15, n15, c25, n25, hc5, hd5, hw⟩ := hw
  refine niX1_345 rfl htr dX1_allOf_5 (by omega) (Nat.le_of_ble_eq_true rfl) hw ⟨hc5, hd5⟩ ?_
  clear hw
  intro g5 hw
  obtain ⟨sh5, V5, R5, rfl, hw⟩ := hw
  clear hT
  obtain ⟨hT, hw⟩ := hw
  refine J.astore_n (lv' := [(1, .ref q0), (0, .ref x)]) dX1_allOf_8 (by decide) rfl ?_
  obtain ⟨f9, hw⟩ := hw
  exact J.pick [1, 0] rfl (rX1_allOf_9 htr hdd hdr hREC f9 _ _ _ _ _ _ hT hw)
abbrev MX1_cond : jM := (yX1_cond, cX1_cond, 2, some (.object "VisitingHours$Cond"), [])
theorem uX1_351_X1_cond {G : jG} {l : Launch} {M : jM} {d c n pc : Nat} {lv : List (Nat × Value)} {rest : List Value} {post : Option Value → List jC → Prop} {xp : String → List jC → Prop} (hM : M.1.cls = RX1) (htr : l.stackTraces = false) {sh : List jH} {V : Nat → Nat → Int32} {R : Nat → Nat → Option Nat} {x : Nat} (hT : jReg shX1 sh x) {REC : List jH → (Nat → Nat → Int32) → (Nat → Nat → Option Nat) → Nat → Nat → (Option Nat → List jH → (Nat → Nat → Int32) → (Nat → Nat → Option Nat) → Prop) → (String → List jH → (Nat → Nat → Int32) → (Nat → Nat → Option Nat) → Prop) → Prop} {dr : Nat} (hdr : dr + 2 ≤ d) (hREC : ∀ {sh : List jH} {V : Nat → Nat → Int32} {R : Nat → Nat → Option Nat} {c : Nat} {n : Nat} {Q : Option Nat → List jH → (Nat → Nat → Int32) → (Nat → Nat → Option Nat) → Prop} {X : String → List jH → (Nat → Nat → Int32) → (Nat → Nat → Option Nat) → Prop}, jReg shX1 sh x → REC sh V R c n Q X → JM G l MX1_atom dr c n [.ref x] (mk sh V R) (jSq Q) (jSx X)) {c1 n1 cq nq : Nat} {Q : Option Nat → List jH → (Nat → Nat → Int32) → (Nat → Nat → Option Nat) → Prop} {X : String → List jH → (Nat → Nat → Int32) → (Nat → Nat → Option Nat) → Prop} (hd : decode M.2.1 pc = .ok (.invokevirtual 351, 3)) (hdd : 9 + 1 ≤ d) (hw8 : (rest.map fun v => v.category).sum ≤ 8) (hw : wX1_allOf x REC sh V R c1 n1 Q X) (hcc : c1 + c ≤ cq ∧ n1 + n ≤ nq) (kk : ∀ r sh' V' R', Q r sh' V' R' → J G l M d c n (pc + 3) lv (va_rf r :: rest) (mk sh' V' R') post xp) (kx : ∀ E sh' V' R', X E sh' V' R' → JX G l M d c n pc lv E (mk sh' V' R') post xp) : J G l M d cq nq pc lv (.ref x :: rest) (mk sh V R) post xp := by
  exact J.callV (As := []) (hcw := by rw [hM]; exact lw_V q1452 q1454 qs35 q144 q1455) (mX1_allOf (d := d - 1) htr (by omega) hT (dr := dr) (by omega) hREC hw) hd rfl ⟨0, _, _, mk_at (hT.at 0 rfl), rfl, rfl, fun _ => rfl⟩ ⟨rfl, by decide, by decide, by show _ = some 0; decide +kernel⟩ hw8 ⟨by omega, by decide⟩ hcc (fun r9 g9 h9 => by obtain ⟨s9, V9, R9, rfl, r, rfl, h⟩ := h9; exact kk r s9 V9 R9 h) (fun E9 g9 h9 => by obtain ⟨s9, V9, R9, rfl, h⟩ := h9; exact kx E9 s9 V9 R9 h)
-- VisitingHours.cond()LVisitingHours$Cond;
def wX1_cond_9 (x : Nat) (REC : List jH → (Nat → Nat → Int32) → (Nat → Nat → Option Nat) → Nat → Nat → (Option Nat → List jH → (Nat → Nat → Int32) → (Nat → Nat → Option Nat) → Prop) → (String → List jH → (Nat → Nat → Int32) → (Nat → Nat → Option Nat) → Prop) → Prop) (Q : Option Nat → List jH → (Nat → Nat → Int32) → (Nat → Nat → Option Nat) → Prop) (X : String → List jH → (Nat → Nat → Int32) → (Nat → Nat → Option Nat) → Prop) : Nat → List jH → (Nat → Nat → Int32) → (Nat → Nat → Option Nat) → Nat → Nat → Nat → Prop
  | 0, _, _, _, _, _, _ => False
  | f + 1, sh, V, R, c, n, x1 =>
    (∃ fs10 : List Value, (mk sh V R)[x1]? = some (.inr (9, fs10)) ∧ jn ≤ x1 ∧ ∃ v10 : Option Nat, fs10[1]? = some (va_rf v10) ∧ (∃ c114 n114 c214 n214 : Nat, c114 + c214 ≤ c ∧ n114 + n214 ≤ n ∧ (wX1_allOf x REC sh V R c114 n114 (fun r14 sh14 V14 R14 => (jReg shX1 sh14 x ∧ (∃ b17_1, r14 = some b17_1 ∧ (∃ b17_2, v10 = some b17_2 ∧ (∃ fs17 : List Value, (mk sh14 V14 R14)[b17_2]? = some (.inr (15, fs17)) ∧ (∃ c117 n117 c217 n217 : Nat, c117 + c217 ≤ c214 ∧ n117 + n217 ≤ n214 ∧ wJ2_add (mk sh14 V14 R14) c117 n117 b17_2 b17_1 (fun r17 g17 => (∃ (sh17 : List jH) (V17 : Nat → Nat → Int32) (R17 : Nat → Nat → Option Nat), g17 = mk sh17 V17 R17 ∧ (jReg shX1 sh17 x ∧ (∃ c128 n128 c228 n228 : Nat, c128 + c228 ≤ c217 ∧ n128 + n228 ≤ n217 ∧ (wX3_passes (x + 109) sh17 V17 R17 c128 n128 36 (fun r28 sh28 V28 R28 => (jReg shX1 sh28 x ∧ ((¬ r28 = 0 → wX1_cond_9 x REC Q X f sh28 V28 R28 c228 n228 x1) ∧ (r28 = 0 → Q (some x1) sh28 V28 R28))))))))))))))) (fun E9 shx Vx Rx => X E9 shx Vx Rx))))
theorem rX1_cond_9 {G : jG} {l : Launch} {d : Nat} (htr : l.stackTraces = false) (hdd : 10 ≤ d) {x : Nat} {REC : List jH → (Nat → Nat → Int32) → (Nat → Nat → Option Nat) → Nat → Nat → (Option Nat → List jH → (Nat → Nat → Int32) → (Nat → Nat → Option Nat) → Prop) → (String → List jH → (Nat → Nat → Int32) → (Nat → Nat → Option Nat) → Prop) → Prop} {dr : Nat} (hdr : dr + 2 ≤ d) (hREC : ∀ {sh : List jH} {V : Nat → Nat → Int32} {R : Nat → Nat → Option Nat} {c : Nat} {n : Nat} {Q : Option Nat → List jH → (Nat → Nat → Int32) → (Nat → Nat → Option Nat) → Prop} {X : String → List jH → (Nat → Nat → Int32) → (Nat → Nat → Option Nat) → Prop}, jReg shX1 sh x → REC sh V R c n Q X → JM G l MX1_atom dr c n [.ref x] (mk sh V R) (jSq Q) (jSx X)) {Q : Option Nat → List jH → (Nat → Nat → Int32) → (Nat → Nat → Option Nat) → Prop} {X : String → List jH → (Nat → Nat → Int32) → (Nat → Nat → Option Nat) → Prop} : ∀ (f : Nat) (sh : List jH) (V : Nat → Nat → Int32) (R : Nat → Nat → Option Nat) (c : Nat) (n : Nat) (x1 : Nat) (hT : jReg shX1 sh x), wX1_cond_9 x REC Q X f sh V R c n x1 → J G l MX1_cond d c n 9 [(0, .ref x), (1, .ref x1)] [] (mk sh V R) (jSq Q) (jSx X) := by
  intro f
  induction f with
  | zero =>
    intro sh V R c n x1 hT hw
    rw [wX1_cond_9] at hw
    exact hw.elim
  | succ f ih =>
    intro sh V R c n x1 hT hw
    rw [wX1_cond_9] at hw
    refine J.aload_n 1 dX1_cond_9 rfl ?_
    obtain ⟨fs10, hk10, hn10, v10, hv10, hw⟩ := hw
    refine J.getfN (C := RX11) (T0 := TX11) (N := 2) 1 dX1_cond_10 hn10 hk10 rfl in_X11 (by decide) nw1446 hv10 ?_
    refine J.aload_n 0 dX1_cond_13 rfl ?_
    obtain ⟨c114, n114, c214, n214, hc14, hd14, hw⟩ := hw
    refine uX1_351_X1_cond rfl htr hT (by omega) hREC dX1_cond_14 (by omega) (by cases v10 <;> exact Nat.le_of_ble_eq_true rfl) hw ⟨hc14, hd14⟩ ?_ ?_
    rotate_left
    · exact fun E9 shx Vx Rx h9 => JX.out (by rfl) ⟨_, _, _, rfl, h9⟩
    clear hw
    intro r14 sh14 V14 R14 hw
    clear hT
    obtain ⟨hT, hw⟩ := hw
    obtain ⟨b17_1, rfl, hw⟩ := hw
    obtain ⟨b17_2, rfl, hw⟩ := hw
    obtain ⟨fs17, hk17, hw⟩ := hw
    obtain ⟨c117, n117, c217, n217, hc17, hd17, hw⟩ := hw
    refine nrX1_304 rfl htr hk17 dX1_cond_17 (by omega) (Nat.le_of_ble_eq_true rfl) hw ⟨hc17, hd17⟩ ?_
    clear hw
    intro r17 g17 hw
    obtain ⟨sh17, V17, R17, rfl, hw⟩ := hw
    clear hT
    obtain ⟨hT, hw⟩ := hw
    refine J.pop dX1_cond_20 rfl ?_
    refine J.aload_n 0 dX1_cond_21 rfl ?_
    refine fgX1_25 rfl hT dX1_cond_22 ?_
    refine J.ldcwS dX1_cond_25 jl_1617 (by decide) ?_
    obtain ⟨c128, n128, c228, n228, hc28, hd28, hw⟩ := hw
    refine uX1_182 rfl htr (hT.sub 109 2 rfl) dX1_cond_28 (by omega) (Nat.le_of_ble_eq_true rfl) hw ⟨hc28, hd28⟩ ?_
    clear hw
    intro r28 sh28 V28 R28 hw
    clear hT
    obtain ⟨hT, hw⟩ := hw
    refine J.if_ne 9 dX1_cond_31 (by decide) ⟨fun c31 => ?_, fun c31 => ?_⟩
    · obtain ⟨hw, -⟩ := hw
      specialize hw c31
      exact (ih _ _ _ _ _ _ hT hw)
    · obtain ⟨-, hw⟩ := hw
      specialize hw c31
      refine J.aload_n 1 dX1_cond_34 rfl ?_
      exact J.aret rfl (Or.inl ⟨_, rfl⟩) (va_rf_nr (some x1)) dX1_cond_35 ⟨_, _, _, rfl, _, rfl, hw⟩
def wX1_cond (x : Nat) (REC : List jH → (Nat → Nat → Int32) → (Nat → Nat → Option Nat) → Nat → Nat → (Option Nat → List jH → (Nat → Nat → Int32) → (Nat → Nat → Option Nat) → Prop) → (String → List jH → (Nat → Nat → Int32) → (Nat → Nat → Option Nat) → Prop) → Prop) (sh : List jH) (V : Nat → Nat → Int32) (R : Nat → Nat → Option Nat) (c : Nat) (n : Nat) (Q : Option Nat → List jH → (Nat → Nat → Int32) → (Nat → Nat → Option Nat) → Prop) (X : String → List jH → (Nat → Nat → Int32) → (Nat → Nat → Option Nat) → Prop) : Prop :=
  (∃ c0 n0, c = c0 + 1 ∧ n = n0 + 2 ∧ (∀ q0, q0 = sh.length → (∀ sh0 : List jH, sh0 = sh ++ [jF (.inr (9, [.int 0, .null]))] → (∃ c15 n15 c25 n25 : Nat, c15 + c25 ≤ c0 ∧ n15 + n25 ≤ n0 ∧ wX11_init (mk sh0 V R) c15 n15 q0 (0 : Int32) (fun g5 => (∃ (sh5 : List jH) (V5 : Nat → Nat → Int32) (R5 : Nat → Nat → Option Nat), g5 = mk sh5 V5 R5 ∧ (jReg shX1 sh5 x ∧ (∃ f9, wX1_cond_9 x REC Q X f9 sh5 V5 R5 c25 n25 q0))))))))
theorem mX1_cond {G : jG} {l : Launch} {d : Nat} (htr : l.stackTraces = false) (hdd : 10 ≤ d) {sh : List jH} {V : Nat → Nat → Int32} {R : Nat → Nat → Option Nat} {c : Nat} {n : Nat} {x : Nat} (hT : jReg shX1 sh x) {REC : List jH → (Nat → Nat → Int32) → (Nat → Nat → Option Nat) → Nat → Nat → (Option Nat → List jH → (Nat → Nat → Int32) → (Nat → Nat → Option Nat) → Prop) → (String → List jH → (Nat → Nat → Int32) → (Nat → Nat → Option Nat) → Prop) → Prop} {dr : Nat} (hdr : dr + 2 ≤ d) (hREC : ∀ {sh : List jH} {V : Nat → Nat → Int32} {R : Nat → Nat → Option Nat} {c : Nat} {n : Nat} {Q : Option Nat → List jH → (Nat → Nat → Int32) → (Nat → Nat → Option Nat) → Prop} {X : String → List jH → (Nat → Nat → Int32) → (Nat → Nat → Option Nat) → Prop}, jReg shX1 sh x → REC sh V R c n Q X → JM G l MX1_atom dr c n [.ref x] (mk sh V R) (jSq Q) (jSx X)) {Q : Option Nat → List jH → (Nat → Nat → Int32) → (Nat → Nat → Option Nat) → Prop} {X : String → List jH → (Nat → Nat → Int32) → (Nat → Nat → Option Nat) → Prop} (hw : wX1_cond x REC sh V R c n Q X) : JM G l MX1_cond d c n [.ref x] (mk sh V R) (jSq Q) (jSx X) := by
  refine JM.intro (by decide) rfl htr (Nat.le_of_ble_eq_true rfl) ?_
  show J G l MX1_cond d c n 0 [(0, .ref x)] [] (mk sh V R) _ _
  unfold wX1_cond at hw
  obtain ⟨c0, n0, rfl, rfl, hw⟩ := hw
  refine J.new (C := RX11) (T0 := TX11) (N := 2) [.int 0, .null] dX1_cond_0 (ci := 9) rfl in_X11 tyX11 tyX11_ok q1436 q1437 q175 rfl (fun _ => rfl) ?_
  rw [mk_len]
  refine J.nmr hw ?_
  clear hw
  intro q0 hw
  rw [mk_pushF]
  refine J.nmsE (fun sh0 e0 => ?_)
  specialize hw sh0 e0
  replace hT := jReg.apE hT e0
  refine J.dup dX1_cond_3 rfl ?_
  refine J.iconst (v := (0 : Int32)) dX1_cond_4 (by decide) ?_
  obtain ⟨c15, n15, c25, n25, hc5, hd5, hw⟩ := hw
  refine niX1_345 rfl htr dX1_cond_5 (by omega) (Nat.le_of_ble_eq_true rfl) hw ⟨hc5, hd5⟩ ?_
  clear hw
  intro g5 hw
  obtain ⟨sh5, V5, R5, rfl, hw⟩ := hw
  clear hT
  obtain ⟨hT, hw⟩ := hw
  refine J.astore_n (lv' := [(1, .ref q0), (0, .ref x)]) dX1_cond_8 (by decide) rfl ?_
  obtain ⟨f9, hw⟩ := hw
  exact J.pick [1, 0] rfl (rX1_cond_9 htr hdd hdr hREC f9 _ _ _ _ _ _ hT hw)
theorem niX1_322 {G : jG} {l : Launch} {M : jM} {d c n pc : Nat} {lv : List (Nat × Value)} {rest : List Value} {g : List jC} {post : Option Value → List jC → Prop} {xp : String → List jC → Prop} (hM : M.1.cls = RX1) (htr : l.stackTraces = false) {h : Nat} {a1 : Nat} {Q : List jC → Prop} (hd : decode M.2.1 pc = .ok (.invokespecial 322, 3)) (hdd : 1 + 1 ≤ d) (hw8 : (rest.map fun v => v.category).sum ≤ 8) (hw : wX12_init g h a1 Q) (kk : ∀ g', Q g' → J G l M d c n (pc + 3) lv rest g' post xp) : J G l M d c n pc lv (.ref a1 :: .ref h :: rest) g post xp :=
  J.callI (M' := MX12_init) (As := [.ref a1]) (hcw := lw_meth q1473) (hini := q176) (hlk := by rw [hM]; exact q1471) (hin := q1472) (hret := rfl) (mX12_init htr (Nat.le_refl _) hw) hd rfl rfl ⟨by decide, by decide, by show _ = some 1; decide +kernel⟩ hw8 ⟨hdd, by decide⟩ jcc0 (fun r9 g9 h9 => by obtain ⟨rfl, h⟩ := h9; exact kk g9 h) jNo.x
theorem niX1_329 {G : jG} {l : Launch} {M : jM} {d c n pc : Nat} {lv : List (Nat × Value)} {rest : List Value} {g : List jC} {post : Option Value → List jC → Prop} {xp : String → List jC → Prop} (hM : M.1.cls = RX1) (htr : l.stackTraces = false) {h : Nat} {a1 : Int32} {Q : List jC → Prop} (hd : decode M.2.1 pc = .ok (.invokespecial 329, 3)) (hdd : 1 + 1 ≤ d) (hw8 : (rest.map fun v => v.category).sum ≤ 8) (hw : wX13_init g h a1 Q) (kk : ∀ g', Q g' → J G l M d c n (pc + 3) lv rest g' post xp) : J G l M d c n pc lv (.int a1 :: .ref h :: rest) g post xp :=
  J.callI (M' := MX13_init) (As := [.int a1]) (hcw := lw_meth q1484) (hini := q177) (hlk := by rw [hM]; exact q1482) (hin := q1483) (hret := rfl) (mX13_init htr (Nat.le_refl _) hw) hd rfl rfl ⟨by decide, by decide, by show _ = some 1; decide +kernel⟩ hw8 ⟨hdd, by decide⟩ jcc0 (fun r9 g9 h9 => by obtain ⟨rfl, h⟩ := h9; exact kk g9 h) jNo.x
theorem niX1_340 {G : jG} {l : Launch} {M : jM} {d c n pc : Nat} {lv : List (Nat × Value)} {rest : List Value} {g : List jC} {post : Option Value → List jC → Prop} {xp : String → List jC → Prop} (hM : M.1.cls = RX1) (htr : l.stackTraces = false) {h : Nat} {a1 : Nat} {a2 : Nat} {Q : List jC → Prop} (hd : decode M.2.1 pc = .ok (.invokespecial 340, 3)) (hdd : 1 + 1 ≤ d) (hw8 : (rest.map fun v => v.category).sum ≤ 8) (hw : wX17_init g h a1 a2 Q) (kk : ∀ g', Q g' → J G l M d c n (pc + 3) lv rest g' post xp) : J G l M d c n pc lv (.ref a2 :: .ref a1 :: .ref h :: rest) g post xp :=
  J.callI (M' := MX17_init) (As := [.ref a1, .ref a2]) (hcw := lw_meth q1607) (hini := q181) (hlk := by rw [hM]; exact q1605) (hin := q1606) (hret := rfl) (mX17_init htr (Nat.le_refl _) hw) hd rfl rfl ⟨by decide, by decide, by show _ = some 2; decide +kernel⟩ hw8 ⟨hdd, by decide⟩ jcc0 (fun r9 g9 h9 => by obtain ⟨rfl, h⟩ := h9; exact kk g9 h) jNo.x
theorem uX1_306 {G : jG} {l : Launch} {M : jM} {d c n pc : Nat} {lv : List (Nat × Value)} {rest : List Value} {post : Option Value → List jC → Prop} {xp : String → List jC → Prop} (hM : M.1.cls = RX1) (htr : l.stackTraces = false) {sh : List jH} {V : Nat → Nat → Int32} {R : Nat → Nat → Option Nat} {r : Nat} (hT : jReg shX3 sh r) {c1 n1 cq nq : Nat} {Q : List jH → (Nat → Nat → Int32) → (Nat → Nat → Option Nat) → Prop} {X : String → List jH → (Nat → Nat → Int32) → (Nat → Nat → Option Nat) → Prop} (hd : decode M.2.1 pc = .ok (.invokevirtual 306, 3)) (hdd : 5 + 1 ≤ d) (hw8 : (rest.map fun v => v.category).sum ≤ 8) (hw : wX3_goesDeeper r sh V R c1 n1 Q X) (hcc : c1 + c ≤ cq ∧ n1 + n ≤ nq) (kk : ∀ sh' V' R', Q sh' V' R' → J G l M d c n (pc + 3) lv rest (mk sh' V' R') post xp) (kx : ∀ E sh' V' R', X E sh' V' R' → JX G l M d c n pc lv E (mk sh' V' R') post xp) : J G l M d cq nq pc lv (.ref r :: rest) (mk sh V R) post xp := by
  exact J.callV (As := []) (hcw := by rw [hM]; exact lw_V q1460 q1461 q1462 q146 q1463) (mX3_goesDeeper htr (Nat.le_refl _) hT hw) hd rfl ⟨2, _, _, mk_at (hT.at 0 rfl), rfl, rfl, fun _ => rfl⟩ ⟨rfl, by decide, by decide, by show _ = some 0; decide +kernel⟩ hw8 ⟨hdd, by decide⟩ hcc (fun r9 g9 h9 => by obtain ⟨s9, V9, R9, rfl, rfl, h⟩ := h9; exact kk s9 V9 R9 h) (fun E9 g9 h9 => by obtain ⟨s9, V9, R9, rfl, h⟩ := h9; exact kx E9 s9 V9 R9 h)
theorem uX1_309_X1_atom {G : jG} {l : Launch} {M : jM} {d c n pc : Nat} {lv : List (Nat × Value)} {rest : List Value} {post : Option Value → List jC → Prop} {xp : String → List jC → Prop} (hM : M.1.cls = RX1) (htr : l.stackTraces = false) {sh : List jH} {V : Nat → Nat → Int32} {R : Nat → Nat → Option Nat} {x : Nat} (hT : jReg shX1 sh x) {REC : List jH → (Nat → Nat → Int32) → (Nat → Nat → Option Nat) → Nat → Nat → (Option Nat → List jH → (Nat → Nat → Int32) → (Nat → Nat → Option Nat) → Prop) → (String → List jH → (Nat → Nat → Int32) → (Nat → Nat → Option Nat) → Prop) → Prop} {dr : Nat} (hdr : dr + 3 ≤ d) (hREC : ∀ {sh : List jH} {V : Nat → Nat → Int32} {R : Nat → Nat → Option Nat} {c : Nat} {n : Nat} {Q : Option Nat → List jH → (Nat → Nat → Int32) → (Nat → Nat → Option Nat) → Prop} {X : String → List jH → (Nat → Nat → Int32) → (Nat → Nat → Option Nat) → Prop}, jReg shX1 sh x → REC sh V R c n Q X → JM G l MX1_atom dr c n [.ref x] (mk sh V R) (jSq Q) (jSx X)) {c1 n1 cq nq : Nat} {Q : Option Nat → List jH → (Nat → Nat → Int32) → (Nat → Nat → Option Nat) → Prop} {X : String → List jH → (Nat → Nat → Int32) → (Nat → Nat → Option Nat) → Prop} (hd : decode M.2.1 pc = .ok (.invokevirtual 309, 3)) (hdd : 10 + 1 ≤ d) (hw8 : (rest.map fun v => v.category).sum ≤ 8) (hw : wX1_cond x REC sh V R c1 n1 Q X) (hcc : c1 + c ≤ cq ∧ n1 + n ≤ nq) (kk : ∀ r sh' V' R', Q r sh' V' R' → J G l M d c n (pc + 3) lv (va_rf r :: rest) (mk sh' V' R') post xp) (kx : ∀ E sh' V' R', X E sh' V' R' → JX G l M d c n pc lv E (mk sh' V' R') post xp) : J G l M d cq nq pc lv (.ref x :: rest) (mk sh V R) post xp := by
  exact J.callV (As := []) (hcw := by rw [hM]; exact lw_V q1432 q1434 qs34 q144 q1435) (mX1_cond (d := d - 1) htr (by omega) hT (dr := dr) (by omega) hREC hw) hd rfl ⟨0, _, _, mk_at (hT.at 0 rfl), rfl, rfl, fun _ => rfl⟩ ⟨rfl, by decide, by decide, by show _ = some 0; decide +kernel⟩ hw8 ⟨by omega, by decide⟩ hcc (fun r9 g9 h9 => by obtain ⟨s9, V9, R9, rfl, r, rfl, h⟩ := h9; exact kk r s9 V9 R9 h) (fun E9 g9 h9 => by obtain ⟨s9, V9, R9, rfl, h⟩ := h9; exact kx E9 s9 V9 R9 h)
theorem uX1_313 {G : jG} {l : Launch} {M : jM} {d c n pc : Nat} {lv : List (Nat × Value)} {rest : List Value} {post : Option Value → List jC → Prop} {xp : String → List jC → Prop} (hM : M.1.cls = RX1) (htr : l.stackTraces = false) {sh : List jH} {V : Nat → Nat → Int32} {R : Nat → Nat → Option Nat} {r : Nat} (hT : jReg shX3 sh r) {Q : (Nat → Nat → Int32) → Prop} (hd : decode M.2.1 pc = .ok (.invokevirtual 313, 3)) (hdd : 0 + 1 ≤ d) (hw8 : (rest.map fun v => v.category).sum ≤ 8) (hw : wX3_comesUp r V Q) (kk : ∀ V', Q V' → J G l M d c n (pc + 3) lv rest (mk sh V' R) post xp) : J G l M d c n pc lv (.ref r :: rest) (mk sh V R) post xp := by
  exact J.callV (As := []) (hcw := by rw [hM]; exact lw_V q1464 q1465 q1466 q146 q1467) (mX3_comesUp htr hT hw) hd rfl ⟨2, _, _, mk_at (hT.at 0 rfl), rfl, rfl, fun _ => rfl⟩ ⟨rfl, by decide, by decide, by show _ = some 0; decide +kernel⟩ hw8 ⟨hdd, by decide⟩ jcc0 (fun r9 g9 h9 => by obtain ⟨V9, rfl, rfl, h⟩ := h9; exact kk V9 h) jNo.x
theorem uX1_317_X1_atom {G : jG} {l : Launch} {M : jM} {d c n pc : Nat} {lv : List (Nat × Value)} {rest : List Value} {post : Option Value → List jC → Prop} {xp : String → List jC → Prop} (hM : M.1.cls = RX1) (htr : l.stackTraces = false) {sh : List jH} {V : Nat → Nat → Int32} {R : Nat → Nat → Option Nat} {x : Nat} (hT : jReg shX1 sh x) {REC : List jH → (Nat → Nat → Int32) → (Nat → Nat → Option Nat) → Nat → Nat → (Option Nat → List jH → (Nat → Nat → Int32) → (Nat → Nat → Option Nat) → Prop) → (String → List jH → (Nat → Nat → Int32) → (Nat → Nat → Option Nat) → Prop) → Prop} {dr : Nat} (hdr : dr + 1 ≤ d) (hREC : ∀ {sh : List jH} {V : Nat → Nat → Int32} {R : Nat → Nat → Option Nat} {c : Nat} {n : Nat} {Q : Option Nat → List jH → (Nat → Nat → Int32) → (Nat → Nat → Option Nat) → Prop} {X : String → List jH → (Nat → Nat → Int32) → (Nat → Nat → Option Nat) → Prop}, jReg shX1 sh x → REC sh V R c n Q X → JM G l MX1_atom dr c n [.ref x] (mk sh V R) (jSq Q) (jSx X)) {c1 n1 cq nq : Nat} {Q : Option Nat → List jH → (Nat → Nat → Int32) → (Nat → Nat → Option Nat) → Prop} {X : String → List jH → (Nat → Nat → Int32) → (Nat → Nat → Option Nat) → Prop} (hd : decode M.2.1 pc = .ok (.invokevirtual 317, 3))  (hw8 : (rest.map fun v => v.category).sum ≤ 8) (hw : REC sh V R c1 n1 Q X) (hcc : c1 + c ≤ cq ∧ n1 + n ≤ nq) (kk : ∀ r sh' V' R', Q r sh' V' R' → J G l M d c n (pc + 3) lv (va_rf r :: rest) (mk sh' V' R') post xp) (kx : ∀ E sh' V' R', X E sh' V' R' → JX G l M d c n pc lv E (mk sh' V' R') post xp) : J G l M d cq nq pc lv (.ref x :: rest) (mk sh V R) post xp := by
  exact J.callV (As := []) (hcw := by rw [hM]; exact lw_V q1456 q1458 qs36 q144 q1459) (hREC hT hw) hd rfl ⟨0, _, _, mk_at (hT.at 0 rfl), rfl, rfl, fun _ => rfl⟩ ⟨rfl, by decide, by decide, by show _ = some 0; decide +kernel⟩ hw8 ⟨hdr, by decide⟩ hcc (fun r9 g9 h9 => by obtain ⟨s9, V9, R9, rfl, r, rfl, h⟩ := h9; exact kk r s9 V9 R9 h) (fun E9 g9 h9 => by obtain ⟨s9, V9, R9, rfl, h⟩ := h9; exact kx E9 s9 V9 R9 h)
theorem uX1_334 {G : jG} {l : Launch} {M : jM} {d c n pc : Nat} {lv : List (Nat × Value)} {rest : List Value} {post : Option Value → List jC → Prop} {xp : String → List jC → Prop} (hM : M.1.cls = RX1) (htr : l.stackTraces = false) {sh : List jH} {V : Nat → Nat → Int32} {R : Nat → Nat → Option Nat} {x : Nat} (hT : jReg shX1 sh x) {c1 n1 cq nq : Nat} {Q : Option Nat → List jH → (Nat → Nat → Int32) → (Nat → Nat → Option Nat) → Prop} {X : String → List jH → (Nat → Nat → Int32) → (Nat → Nat → Option Nat) → Prop} (hd : decode M.2.1 pc = .ok (.invokevirtual 334, 3)) (hdd : 9 + 1 ≤ d) (hw8 : (rest.map fun v => v.category).sum ≤ 8) (hw : wX1_sum x sh V R c1 n1 Q X) (hcc : c1 + c ≤ cq ∧ n1 + n ≤ nq) (kk : ∀ r sh' V' R', Q r sh' V' R' → J G l M d c n (pc + 3) lv (va_rf r :: rest) (mk sh' V' R') post xp) (kx : ∀ E sh' V' R', X E sh' V' R' → JX G l M d c n pc lv E (mk sh' V' R') post xp) : J G l M d cq nq pc lv (.ref x :: rest) (mk sh V R) post xp := by
  exact J.callV (As := []) (hcw := by rw [hM]; exact lw_V q1491 q1493 qs37 q144 q1494) (mX1_sum htr (Nat.le_refl _) hT hw) hd rfl ⟨0, _, _, mk_at (hT.at 0 rfl), rfl, rfl, fun _ => rfl⟩ ⟨rfl, by decide, by decide, by show _ = some 0; decide +kernel⟩ hw8 ⟨hdd, by decide⟩ hcc (fun r9 g9 h9 => by obtain ⟨s9, V9, R9, rfl, r, rfl, h⟩ := h9; exact kk r s9 V9 R9 h) (fun E9 g9 h9 => by obtain ⟨s9, V9, R9, rfl, h⟩ := h9; exact kx E9 s9 V9 R9 h)
-- VisitingHours.atom()LVisitingHours$Cond;
def wX1_atom_B (x : Nat) (REC : List jH → (Nat → Nat → Int32) → (Nat → Nat → Option Nat) → Nat → Nat → (Option Nat → List jH → (Nat → Nat → Int32) → (Nat → Nat → Option Nat) → Prop) → (String → List jH → (Nat → Nat → Int32) → (Nat → Nat → Option Nat) → Prop) → Prop) (sh : List jH) (V : Nat → Nat → Int32) (R : Nat → Nat → Option Nat) (c : Nat) (n : Nat) (Q : Option Nat → List jH → (Nat → Nat → Int32) → (Nat → Nat → Option Nat) → Prop) (X : String → List jH → (Nat → Nat → Int32) → (Nat → Nat → Option Nat) → Prop) : Prop :=
  (wX3_sign (x + 109) V (40 : Int32) (fun r8 V8 => ((r8 = 0 → (∃ c147 n147 c247 n247 : Nat, c147 + c247 ≤ c ∧ n147 + n247 ≤ n ∧ (wX3_passes (x + 109) sh V8 R c147 n147 28 (fun r47 sh47 V47 R47 => (jReg shX1 sh47 x ∧ ((r47 = 0 → (∃ c179 n179 c279 n279 : Nat, c179 + c279 ≤ c247 ∧ n179 + n279 ≤ n247 ∧ (wX3_passes (x + 109) sh47 V47 R47 c179 n179 30 (fun r79 sh79 V79 R79 => (jReg shX1 sh79 x ∧ ((r79 = 0 → (∃ c198 n198 c298 n298 : Nat, c198 + c298 ≤ c279 ∧ n198 + n298 ≤ n279 ∧ (wX3_passes (x + 109) sh79 V79 R79 c198 n198 32 (fun r98 sh98 V98 R98 => (jReg shX1 sh98 x ∧ ((r98 = 0 → (∃ c1114 n1114 c2114 n2114 : Nat, c1114 + c2114 ≤ c298 ∧ n1114 + n2114 ≤ n298 ∧ (wX1_sum x sh98 V98 R98 c1114 n1114 (fun r114 sh114 V114 R114 => (jReg shX1 sh114 x ∧ (wX3_sign (x + 109) V114 (60 : Int32) (fun r121 V121 => ((r121 = 0 → (wX3_sign (x + 109) V121 (62 : Int32) (fun r143 V143 => ((¬ r143 = 0 → (∃ c154 n154, c2114 = c154 + 1 ∧ n2114 = n154 + 2 ∧ (∀ q154, q154 = sh114.length → (∀ sh154 : List jH, sh154 = sh114 ++ [jF (.inr (14, [.null, .null]))] → (∃ c1159 n1159 c2159 n2159 : Nat, c1159 + c2159 ≤ c154 ∧ n1159 + n2159 ≤ n154 ∧ (wX1_sum x sh154 V143 R114 c1159 n1159 (fun r159 sh159 V159 R159 => (jReg shX1 sh159 x ∧ (∃ b163_1, r159 = some b163_1 ∧ (∃ b163_2, r114 = some b163_2 ∧ wX17_init (mk sh159 V159 R159) q154 b163_1 b163_2 (fun g163 => (∃ (sh163 : List jH) (V163 : Nat → Nat → Int32) (R163 : Nat → Nat → Option Nat), g163 = mk sh163 V163 R163 ∧ (jReg shX1 sh163 x ∧ Q (some q154) sh163 V163 R163))))))) (fun E9 shx Vx Rx => X E9 shx Vx Rx))))))) ∧ (r143 = 0 → (∃ c1150 n1150 c2150 n2150 : Nat, c1150 + c2150 ≤ c2114 ∧ n1150 + n2150 ≤ n2114 ∧ (wX3_wrong (x + 109) sh114 V143 R114 c1150 n1150 (fun r150 sh150 V150 R150 => (jReg shX1 sh150 x ∧ (∃ b153_3, r150 = some b153_3 ∧ (∃ fs153 : List Value, (mk sh150 V150 R150)[b153_3]? = some (.inr (6, fs153)) ∧ jn ≤ b153_3 ∧ X "VisitingHours$Wrong" sh150 V150 R150))))))))))) ∧ (¬ r121 = 0 → (∃ c127 n127, c2114 = c127 + 1 ∧ n2114 = n127 + 2 ∧ (∀ q127, q127 = sh114.length → (∀ sh127 : List jH, sh127 = sh114 ++ [jF (.inr (14, [.null, .null]))] → (∃ c1133 n1133 c2133 n2133 : Nat, c1133 + c2133 ≤ c127 ∧ n1133 + n2133 ≤ n127 ∧ (wX1_sum x sh127 V121 R114 c1133 n1133 (fun r133 sh133 V133 R133 => (jReg shX1 sh133 x ∧ (∃ b136_4, r114 = some b136_4 ∧ (∃ b136_5, r133 = some b136_5 ∧ wX17_init (mk sh133 V133 R133) q127 b136_4 b136_5 (fun g136 => (∃ (sh136 : List jH) (V136 : Nat → Nat → Int32) (R136 : Nat → Nat → Option Nat), g136 = mk sh136 V136 R136 ∧ (jReg shX1 sh136 x ∧ Q (some q127) sh136 V136 R136))))))) (fun E9 shx Vx Rx => X E9 shx Vx Rx)))))))))))) (fun E9 shx Vx Rx => X E9 shx Vx Rx)))) ∧ (¬ r98 = 0 → (∃ c104 n104, c298 = c104 + 1 ∧ n298 = n104 + 1 ∧ (∀ q104, q104 = sh98.length → (∀ sh104 : List jH, sh104 = sh98 ++ [jF (.inr (11, [.int 0]))] → wX13_init (mk sh104 V98 R98) q104 (0 : Int32) (fun g109 => (∃ (sh109 : List jH) (V109 : Nat → Nat → Int32) (R109 : Nat → Nat → Option Nat), g109 = mk sh109 V109 R109 ∧ (jReg shX1 sh109 x ∧ Q (some q104) sh109 V109 R109))))))))))))) ∧ (¬ r79 = 0 → (∃ c85 n85, c279 = c85 + 1 ∧ n279 = n85 + 1 ∧ (∀ q85, q85 = sh79.length → (∀ sh85 : List jH, sh85 = sh79 ++ [jF (.inr (11, [.int 0]))] → wX13_init (mk sh85 V79 R79) q85 (1 : Int32) (fun g90 => (∃ (sh90 : List jH) (V90 : Nat → Nat → Int32) (R90 : Nat → Nat → Option Nat), g90 = mk sh90 V90 R90 ∧ (jReg shX1 sh90 x ∧ Q (some q85) sh90 V90 R90))))))))))))) ∧ (¬ r47 = 0 → (∃ c154 n154 c254 n254 : Nat, c154 + c254 ≤ c247 ∧ n154 + n254 ≤ n247 ∧ (wX3_goesDeeper (x + 109) sh47 V47 R47 c154 n154 (fun sh54 V54 R54 => (jReg shX1 sh54 x ∧ (∃ c158 n158 c258 n258 : Nat, c158 + c258 ≤ c254 ∧ n158 + n258 ≤ n254 ∧ (REC sh54 V54 R54 c158 n158 (fun r58 sh58 V58 R58 => (jReg shX1 sh58 x ∧ (wX3_comesUp (x + 109) V58 (fun V63 => (∃ c66 n66, c258 = c66 + 1 ∧ n258 = n66 + 1 ∧ (∀ q66, q66 = sh58.length → (∀ sh66 : List jH, sh66 = sh58 ++ [jF (.inr (10, [.null]))] → (∃ b71_6, r58 = some b71_6 ∧ wX12_init (mk sh66 V63 R58) q66 b71_6 (fun g71 => (∃ (sh71 : List jH) (V71 : Nat → Nat → Int32) (R71 : Nat → Nat → Option Nat), g71 = mk sh71 V71 R71 ∧ (jReg shX1 sh71 x ∧ Q (some q66) sh71 V71 R71))))))))))) (fun E9 shx Vx Rx => X E9 shx Vx Rx))))) (fun E9 shx Vx Rx => X E9 shx Vx Rx)))))))))) ∧ (¬ r8 = 0 → (∃ c115 n115 c215 n215 : Nat, c115 + c215 ≤ c ∧ n115 + n215 ≤ n ∧ (wX3_goesDeeper (x + 109) sh V8 R c115 n115 (fun sh15 V15 R15 => (jReg shX1 sh15 x ∧ (∃ c119 n119 c219 n219 : Nat, c119 + c219 ≤ c215 ∧ n119 + n219 ≤ n215 ∧ (wX1_cond x REC sh15 V15 R15 c119 n119 (fun r19 sh19 V19 R19 => (jReg shX1 sh19 x ∧ (wX3_comesUp (x + 109) V19 (fun V24 => (wX3_sign (x + 109) V24 (41 : Int32) (fun r30 V30 => ((¬ r30 = 0 → Q r19 sh19 V30 R19) ∧ (r30 = 0 → (∃ c137 n137 c237 n237 : Nat, c137 + c237 ≤ c219 ∧ n137 + n237 ≤ n219 ∧ (wX3_wrong (x + 109) sh19 V30 R19 c137 n137 (fun r37 sh37 V37 R37 => (jReg shX1 sh37 x ∧ (∃ b40_7, r37 = some b40_7 ∧ (∃ fs40 : List Value, (mk sh37 V37 R37)[b40_7]? = some (.inr (6, fs40)) ∧ jn ≤ b40_7 ∧ X "VisitingHours$Wrong" sh37 V37 R37)))))))))))))) (fun E9 shx Vx Rx => X E9 shx Vx Rx))))) (fun E9 shx Vx Rx => X E9 shx Vx Rx)))))))
def wX1_atom (x : Nat) : Nat → List jH → (Nat → Nat → Int32) → (Nat → Nat → Option Nat) → Nat → Nat → (Option Nat → List jH → (Nat → Nat → Int32) → (Nat → Nat → Option Nat) → Prop) → (String → List jH → (Nat → Nat → Int32) → (Nat → Nat → Option Nat) → Prop) → Prop
  | 0, _, _, _, _, _, _, _ => False
  | f + 1, sh, V, R, c, n, Q, X => wX1_atom_B x (wX1_atom x f) sh V R c n Q X
theorem mX1_atom {G : jG} {l : Launch} (htr : l.stackTraces = false) {x : Nat} : ∀ (f : Nat) {sh : List jH} {V : Nat → Nat → Int32} {R : Nat → Nat → Option Nat} {c : Nat} {n : Nat} {Q : Option Nat → List jH → (Nat → Nat → Int32) → (Nat → Nat → Option Nat) → Prop} {X : String → List jH → (Nat → Nat → Int32) → (Nat → Nat → Option Nat) → Prop}, jReg shX1 sh x → wX1_atom x f sh V R c n Q X → JM G l MX1_atom (11 + 4 * f) c n [.ref x] (mk sh V R) (jSq Q) (jSx X) := by
  intro f
  induction f with
  | zero =>
    intro sh V R c n Q X hT hw
    rw [wX1_atom] at hw
    exact hw.elim
  | succ f ih =>
    intro sh V R c n Q X hT hw
    rw [wX1_atom] at hw
    have hdr : (11 + 4 * f) + 4 ≤ 11 + 4 * (f + 1) := by omega
    have hREC := @ih
    have hdd : 11 ≤ 11 + 4 * (f + 1) := by omega
    refine JM.intro (by decide) rfl htr (Nat.le_of_ble_eq_true rfl) ?_
    show J G l MX1_atom (11 + 4 * (f + 1)) c n 0 [(0, .ref x)] [] (mk sh V R) _ _
    unfold wX1_atom_B at hw
    refine J.aload_n 0 dX1_atom_0 rfl ?_
    refine fgX1_25 rfl hT dX1_atom_1 ?_
    refine J.astore_n (lv' := [(1, .ref (x + 109)), (0, .ref x)]) dX1_atom_4 (by decide) rfl ?_
    refine J.aload_n 0 dX1_atom_5 rfl ?_
    refine J.bipush (v := (40 : Int32)) dX1_atom_6 (by decide) ?_
    refine uX1_247 rfl htr (hT.sub 109 2 rfl) dX1_atom_8 (by omega) (Nat.le_of_ble_eq_true rfl) hw ?_
    clear hw
    intro r8 V8 hw
    refine J.if_eq 43 dX1_atom_11 (by decide) ⟨fun c11 => ?_, fun c11 => ?_⟩
    · obtain ⟨hw, -⟩ := hw
      specialize hw c11
      refine J.aload_n 0 dX1_atom_43 rfl ?_
      refine J.ldcwS dX1_atom_44 jl_1468 (by decide) ?_
      obtain ⟨c147, n147, c247, n247, hc47, hd47, hw⟩ := hw
      refine uX1_182 rfl htr (hT.sub 109 2 rfl) dX1_atom_47 (by omega) (Nat.le_of_ble_eq_true rfl) hw ⟨hc47, hd47⟩ ?_
      clear hw
      intro r47 sh47 V47 R47 hw
      clear hT
      obtain ⟨hT, hw⟩ := hw
      refine J.if_eq 75 dX1_atom_50 (by decide) ⟨fun c50 => ?_, fun c50 => ?_⟩
      · obtain ⟨hw, -⟩ := hw
        specialize hw c50
        refine J.aload_n 0 dX1_atom_75 rfl ?_
        refine J.ldcwS dX1_atom_76 jl_1479 (by decide) ?_
        obtain ⟨c179, n179, c279, n279, hc79, hd79, hw⟩ := hw
        refine uX1_182 rfl htr (hT.sub 109 2 rfl) dX1_atom_79 (by omega) (Nat.le_of_ble_eq_true rfl) hw ⟨hc79, hd79⟩ ?_
        clear hw
        intro r79 sh79 V79 R79 hw
        clear hT
        obtain ⟨hT, hw⟩ := hw
        refine J.if_eq 94 dX1_atom_82 (by decide) ⟨fun c82 => ?_, fun c82 => ?_⟩
        · obtain ⟨hw, -⟩ := hw
          specialize hw c82
          refine J.aload_n 0 dX1_atom_94 rfl ?_
          refine J.ldcwS dX1_atom_95 jl_1490 (by decide) ?_
          obtain ⟨c198, n198, c298, n298, hc98, hd98, hw⟩ := hw
          refine uX1_182 rfl htr (hT.sub 109 2 rfl) dX1_atom_98 (by omega) (Nat.le_of_ble_eq_true rfl) hw ⟨hc98, hd98⟩ ?_
          clear hw
          intro r98 sh98 V98 R98 hw
          clear hT
          obtain ⟨hT, hw⟩ := hw
          refine J.if_eq 113 dX1_atom_101 (by decide) ⟨fun c101 => ?_, fun c101 => ?_⟩
          · obtain ⟨hw, -⟩ := hw
            specialize hw c101
            refine J.aload_n 1 dX1_atom_113 rfl ?_
            obtain ⟨c1114, n1114, c2114, n2114, hc114, hd114, hw⟩ := hw
            refine uX1_334 rfl htr hT dX1_atom_114 (by omega) (Nat.le_of_ble_eq_true rfl) hw ⟨hc114, hd114⟩ ?_ ?_
            rotate_left
            · exact fun E9 shx Vx Rx h9 => JX.out (by rfl) ⟨_, _, _, rfl, h9⟩
            clear hw
            intro r114 sh114 V114 R114 hw
            clear hT
            obtain ⟨hT, hw⟩ := hw
            refine J.astoreQ_n (lv' := [(2, va_rf r114), (1, .ref (x + 109)), (0, .ref x)]) dX1_atom_117 (by decide) rfl ?_
            refine J.aload_n 1 dX1_atom_118 rfl ?_
            refine J.bipush (v := (60 : Int32)) dX1_atom_119 (by decide) ?_
            refine uX1_247 rfl htr (hT.sub 109 2 rfl) dX1_atom_121 (by omega) (Nat.le_of_ble_eq_true rfl) hw ?_
            clear hw
            intro r121 V121 hw
            refine J.if_eq 140 dX1_atom_124 (by decide) ⟨fun c124 => ?_, fun c124 => ?_⟩
            · obtain ⟨hw, -⟩ := hw
              specialize hw c124
              refine J.aload_n 1 dX1_atom_140 rfl ?_
              refine J.bipush (v := (62 : Int32)) dX1_atom_141 (by decide) ?_
              refine uX1_247 rfl htr (hT.sub 109 2 rfl) dX1_atom_143 (by omega) (Nat.le_of_ble_eq_true rfl) hw ?_
              clear hw
              intro r143 V143 hw
              refine J.if_ne 154 dX1_atom_146 (by decide) ⟨fun c146 => ?_, fun c146 => ?_⟩
              · obtain ⟨hw, -⟩ := hw
                specialize hw c146
                obtain ⟨c154, n154, rfl, rfl, hw⟩ := hw
                refine J.new (C := RX17) (T0 := TX17) (N := 2) [.null, .null] dX1_atom_154 (ci := 14) rfl in_X17 tyX17 tyX17_ok q1603 q1604 q181 rfl (fun _ => rfl) ?_
                rw [mk_len]
                refine J.nmr hw ?_
                clear hw
                intro q154 hw
                rw [mk_pushF]
                refine J.nmsE (fun sh154 e154 => ?_)
                specialize hw sh154 e154
                replace hT := jReg.apE hT e154
                refine J.dup dX1_atom_157 rfl ?_
                refine J.aload_n 2 dX1_atom_158 rfl ?_
                obtain ⟨c1159, n1159, c2159, n2159, hc159, hd159, hw⟩ := hw
                refine uX1_334 rfl htr hT dX1_atom_159 (by omega) (Nat.le_of_ble_eq_true rfl) hw ⟨hc159, hd159⟩ ?_ ?_
                rotate_left
                · exact fun E9 shx Vx Rx h9 => JX.out (by rfl) ⟨_, _, _, rfl, h9⟩
                clear hw
                intro r159 sh159 V159 R159 hw
                clear hT
                obtain ⟨hT, hw⟩ := hw
                refine J.aloadQ_n 0 dX1_atom_162 rfl ?_
                obtain ⟨b163_1, rfl, hw⟩ := hw
                obtain ⟨b163_2, rfl, hw⟩ := hw
                refine niX1_340 rfl htr dX1_atom_163 (by omega) (Nat.le_of_ble_eq_true rfl) hw ?_
                clear hw
                intro g163 hw
                obtain ⟨sh163, V163, R163, rfl, hw⟩ := hw
                clear hT
                obtain ⟨hT, hw⟩ := hw
                exact J.aret rfl (Or.inl ⟨_, rfl⟩) (va_rf_nr (some q154)) dX1_atom_166 ⟨_, _, _, rfl, _, rfl, hw⟩
              · obtain ⟨-, hw⟩ := hw
                specialize hw c146
                refine J.aload_n 1 dX1_atom_149 rfl ?_
                obtain ⟨c1150, n1150, c2150, n2150, hc150, hd150, hw⟩ := hw
                refine uX1_96 rfl htr (hT.sub 109 2 rfl) dX1_atom_150 (by omega) (Nat.le_of_ble_eq_true rfl) hw ⟨hc150, hd150⟩ ?_
                clear hw
                intro r150 sh150 V150 R150 hw
                clear hT
                obtain ⟨hT, hw⟩ := hw
                obtain ⟨b153_3, rfl, hw⟩ := hw
                obtain ⟨fs153, hk153, hn153, hw⟩ := hw
                exact J.athrow dX1_atom_153 hn153 hk153 rfl rfl (JX.out (by rfl) ⟨_, _, _, rfl, hw⟩)
            · obtain ⟨-, hw⟩ := hw
              specialize hw c124
              obtain ⟨c127, n127, rfl, rfl, hw⟩ := hw
              refine J.new (C := RX17) (T0 := TX17) (N := 2) [.null, .null] dX1_atom_127 (ci := 14) rfl in_X17 tyX17 tyX17_ok q1603 q1604 q181 rfl (fun _ => rfl) ?_
              rw [mk_len]
              refine J.nmr hw ?_
              clear hw
              intro q127 hw
              rw [mk_pushF]
              refine J.nmsE (fun sh127 e127 => ?_)
              specialize hw sh127 e127
              replace hT := jReg.apE hT e127
              refine J.dup dX1_atom_130 rfl ?_
              refine J.aloadQ_n 0 dX1_atom_131 rfl ?_
              refine J.aload_n 2 dX1_atom_132 rfl ?_
              obtain ⟨c1133, n1133, c2133, n2133, hc133, hd133, hw⟩ := hw
              refine uX1_334 rfl htr hT dX1_atom_133 (by omega) (by cases r114 <;> exact Nat.le_of_ble_eq_true rfl) hw ⟨hc133, hd133⟩ ?_ ?_
              rotate_left
              · exact fun E9 shx Vx Rx h9 => JX.out (by rfl) ⟨_, _, _, rfl, h9⟩
              clear hw
              intro r133 sh133 V133 R133 hw
              clear hT
              obtain ⟨hT, hw⟩ := hw
              obtain ⟨b136_4, rfl, hw⟩ := hw
              obtain ⟨b136_5, rfl, hw⟩ := hw
              refine niX1_340 rfl htr dX1_atom_136 (by omega) (Nat.le_of_ble_eq_true rfl) hw ?_
              clear hw
              intro g136 hw
              obtain ⟨sh136, V136, R136, rfl, hw⟩ := hw
              clear hT
              obtain ⟨hT, hw⟩ := hw
              exact J.aret rfl (Or.inl ⟨_, rfl⟩) (va_rf_nr (some q127)) dX1_atom_139 ⟨_, _, _, rfl, _, rfl, hw⟩
          · obtain ⟨-, hw⟩ := hw
            specialize hw c101
            obtain ⟨c104, n104, rfl, rfl, hw⟩ := hw
            refine J.new (C := RX13) (T0 := TX13) (N := 1) [.int 0] dX1_atom_104 (ci := 11) rfl in_X13 tyX13 tyX13_ok q1480 q1481 q177 rfl (fun _ => rfl) ?_
            rw [mk_len]
            refine J.nmr hw ?_
            clear hw
            intro q104 hw
            rw [mk_pushF]
            refine J.nmsE (fun sh104 e104 => ?_)
            specialize hw sh104 e104
            replace hT := jReg.apE hT e104
            refine J.dup dX1_atom_107 rfl ?_
            refine J.iconst (v := (0 : Int32)) dX1_atom_108 (by decide) ?_
            refine niX1_329 rfl htr dX1_atom_109 (by omega) (Nat.le_of_ble_eq_true rfl) hw ?_
            clear hw
            intro g109 hw
            obtain ⟨sh109, V109, R109, rfl, hw⟩ := hw
            clear hT
            obtain ⟨hT, hw⟩ := hw
            exact J.aret rfl (Or.inl ⟨_, rfl⟩) (va_rf_nr (some q104)) dX1_atom_112 ⟨_, _, _, rfl, _, rfl, hw⟩
        · obtain ⟨-, hw⟩ := hw
          specialize hw c82
          obtain ⟨c85, n85, rfl, rfl, hw⟩ := hw
          refine J.new (C := RX13) (T0 := TX13) (N := 1) [.int 0] dX1_atom_85 (ci := 11) rfl in_X13 tyX13 tyX13_ok q1480 q1481 q177 rfl (fun _ => rfl) ?_
          rw [mk_len]
          refine J.nmr hw ?_
          clear hw
          intro q85 hw
          rw [mk_pushF]
          refine J.nmsE (fun sh85 e85 => ?_)
          specialize hw sh85 e85
          replace hT := jReg.apE hT e85
          refine J.dup dX1_atom_88 rfl ?_
          refine J.iconst (v := (1 : Int32)) dX1_atom_89 (by decide) ?_
          refine niX1_329 rfl htr dX1_atom_90 (by omega) (Nat.le_of_ble_eq_true rfl) hw ?_
          clear hw
          intro g90 hw
          obtain ⟨sh90, V90, R90, rfl, hw⟩ := hw
          clear hT
          obtain ⟨hT, hw⟩ := hw
          exact J.aret rfl (Or.inl ⟨_, rfl⟩) (va_rf_nr (some q85)) dX1_atom_93 ⟨_, _, _, rfl, _, rfl, hw⟩
      · obtain ⟨-, hw⟩ := hw
        specialize hw c50
        refine J.aload_n 0 dX1_atom_53 rfl ?_
        obtain ⟨c154, n154, c254, n254, hc54, hd54, hw⟩ := hw
        refine uX1_306 rfl htr (hT.sub 109 2 rfl) dX1_atom_54 (by omega) (Nat.le_of_ble_eq_true rfl) hw ⟨hc54, hd54⟩ ?_ ?_
        rotate_left
        · exact fun E9 shx Vx Rx h9 => JX.out (by rfl) ⟨_, _, _, rfl, h9⟩
        clear hw
        intro sh54 V54 R54 hw
        clear hT
        obtain ⟨hT, hw⟩ := hw
        refine J.aload_n 1 dX1_atom_57 rfl ?_
        obtain ⟨c158, n158, c258, n258, hc58, hd58, hw⟩ := hw
        refine uX1_317_X1_atom rfl htr hT (by omega) hREC dX1_atom_58 (Nat.le_of_ble_eq_true rfl) hw ⟨hc58, hd58⟩ ?_ ?_
        rotate_left
        · exact fun E9 shx Vx Rx h9 => JX.out (by rfl) ⟨_, _, _, rfl, h9⟩
        clear hw
        intro r58 sh58 V58 R58 hw
        clear hT
        obtain ⟨hT, hw⟩ := hw
        refine J.astoreQ_n (lv' := [(2, va_rf r58), (1, .ref (x + 109)), (0, .ref x)]) dX1_atom_61 (by decide) rfl ?_
        refine J.aload_n 1 dX1_atom_62 rfl ?_
        refine uX1_313 rfl htr (hT.sub 109 2 rfl) dX1_atom_63 (by omega) (Nat.le_of_ble_eq_true rfl) hw ?_
        clear hw
        intro V63 hw
        obtain ⟨c66, n66, rfl, rfl, hw⟩ := hw
        refine J.new (C := RX12) (T0 := TX12) (N := 1) [.null] dX1_atom_66 (ci := 10) rfl in_X12 tyX12 tyX12_ok q1469 q1470 q176 rfl (fun _ => rfl) ?_
        rw [mk_len]
        refine J.nmr hw ?_
        clear hw
        intro q66 hw
        rw [mk_pushF]
        refine J.nmsE (fun sh66 e66 => ?_)
        specialize hw sh66 e66
        replace hT := jReg.apE hT e66
        refine J.dup dX1_atom_69 rfl ?_
        refine J.aloadQ_n 0 dX1_atom_70 rfl ?_
        obtain ⟨b71_6, rfl, hw⟩ := hw
        refine niX1_322 rfl htr dX1_atom_71 (by omega) (Nat.le_of_ble_eq_true rfl) hw ?_
        clear hw
        intro g71 hw
        obtain ⟨sh71, V71, R71, rfl, hw⟩ := hw
        clear hT
        obtain ⟨hT, hw⟩ := hw
        exact J.aret rfl (Or.inl ⟨_, rfl⟩) (va_rf_nr (some q66)) dX1_atom_74 ⟨_, _, _, rfl, _, rfl, hw⟩
    · obtain ⟨-, hw⟩ := hw
      specialize hw c11
      refine J.aload_n 0 dX1_atom_14 rfl ?_
      obtain ⟨c115, n115, c215, n215, hc15, hd15, hw⟩ := hw
      refine uX1_306 rfl htr (hT.sub 109 2 rfl) dX1_atom_15 (by omega) (Nat.le_of_ble_eq_true rfl) hw ⟨hc15, hd15⟩ ?_ ?_
      rotate_left
      · exact fun E9 shx Vx Rx h9 => JX.out (by rfl) ⟨_, _, _, rfl, h9⟩
      clear hw
      intro sh15 V15 R15 hw
      clear hT
      obtain ⟨hT, hw⟩ := hw
      refine J.aload_n 1 dX1_atom_18 rfl ?_
      obtain ⟨c119, n119, c219, n219, hc19, hd19, hw⟩ := hw
      refine uX1_309_X1_atom rfl htr hT (by omega) hREC dX1_atom_19 (by omega) (Nat.le_of_ble_eq_true rfl) hw ⟨hc19, hd19⟩ ?_ ?_
      rotate_left
      · exact fun E9 shx Vx Rx h9 => JX.out (by rfl) ⟨_, _, _, rfl, h9⟩
      clear hw
      intro r19 sh19 V19 R19 hw
      clear hT
      obtain ⟨hT, hw⟩ := hw
      refine J.astoreQ_n (lv' := [(2, va_rf r19), (1, .ref (x + 109)), (0, .ref x)]) dX1_atom_22 (by decide) rfl ?_
      refine J.aload_n 1 dX1_atom_23 rfl ?_
      refine uX1_313 rfl htr (hT.sub 109 2 rfl) dX1_atom_24 (by omega) (Nat.le_of_ble_eq_true rfl) hw ?_
      clear hw
      intro V24 hw
      refine J.aload_n 1 dX1_atom_27 rfl ?_
      refine J.bipush (v := (41 : Int32)) dX1_atom_28 (by decide) ?_
      refine uX1_247 rfl htr (hT.sub 109 2 rfl) dX1_atom_30 (by omega) (Nat.le_of_ble_eq_true rfl) hw ?_
      clear hw
      intro r30 V30 hw
      refine J.if_ne 41 dX1_atom_33 (by decide) ⟨fun c33 => ?_, fun c33 => ?_⟩
      · obtain ⟨hw, -⟩ := hw
        specialize hw c33
        refine J.aloadQ_n 0 dX1_atom_41 rfl ?_
        exact J.aret rfl (Or.inl ⟨_, rfl⟩) (va_rf_nr r19) dX1_atom_42 ⟨_, _, _, rfl, _, rfl, hw⟩
      · obtain ⟨-, hw⟩ := hw
        specialize hw c33
        refine J.aload_n 1 dX1_atom_36 rfl ?_
        obtain ⟨c137, n137, c237, n237, hc37, hd37, hw⟩ := hw
        refine uX1_96 rfl htr (hT.sub 109 2 rfl) dX1_atom_37 (by omega) (Nat.le_of_ble_eq_true rfl) hw ⟨hc37, hd37⟩ ?_
        clear hw
        intro r37 sh37 V37 R37 hw
        clear hT
        obtain ⟨hT, hw⟩ := hw
        obtain ⟨b40_7, rfl, hw⟩ := hw
        obtain ⟨fs40, hk40, hn40, hw⟩ := hw
        exact J.athrow dX1_atom_40 hn40 hk40 rfl rfl (JX.out (by rfl) ⟨_, _, _, rfl, hw⟩)
theorem nrX1_356 {G : jG} {l : Launch} {M : jM} {d c n pc : Nat} {lv : List (Nat × Value)} {rest : List Value} {g : List jC} {post : Option Value → List jC → Prop} {xp : String → List jC → Prop} (hM : M.1.cls = RX1) (htr : l.stackTraces = false) {a1 : Nat} {c1 n1 cq nq : Nat} {Q : Option Nat → List jC → Prop} (hd : decode M.2.1 pc = .ok (.invokestatic 356, 3)) (hdd : 2 + 1 ≤ d) (hw8 : (rest.map fun v => v.category).sum ≤ 8) (hw : wX9_of g c1 n1 a1 Q) (hcc : c1 + c ≤ cq ∧ n1 + n ≤ nq) (kk : ∀ r g', Q r g' → J G l M d c n (pc + 3) lv (va_rf r :: rest) g' post xp) : J G l M d cq nq pc lv (.ref a1 :: rest) g post xp :=
  J.callS (As := [.ref a1]) (hcw := by rw [hM]; exact lw_S q1413 q1414 q173 q1415) (mX9_of htr (Nat.le_refl _) hw) hd rfl ⟨by decide, by decide, by show _ = some 1; decide +kernel⟩ hw8 ⟨hdd, by decide⟩ hcc (fun r9 g9 h9 => by obtain ⟨r, rfl, h⟩ := h9; exact kk r g9 h) jNo.x
theorem niX1_369 {G : jG} {l : Launch} {M : jM} {d c n pc : Nat} {lv : List (Nat × Value)} {rest : List Value} {g : List jC} {post : Option Value → List jC → Prop} {xp : String → List jC → Prop} (hM : M.1.cls = RX1) (htr : l.stackTraces = false) {h : Nat} {a1 : Nat} {a2 : Int32} {a3 : Option Nat} {Q : List jC → Prop} (hd : decode M.2.1 pc = .ok (.invokespecial 369, 3)) (hdd : 1 + 1 ≤ d) (hw8 : (rest.map fun v => v.category).sum ≤ 8) (hw : wX10_init g h a1 a2 a3 Q) (kk : ∀ g', Q g' → J G l M d c n (pc + 3) lv rest g' post xp) : J G l M d c n pc lv (va_rf a3 :: .int a2 :: .ref a1 :: .ref h :: rest) g post xp :=
  J.callI (M' := MX10_init) (As := [.ref a1, .int a2, va_rf a3]) (hcw := lw_meth q1620) (hini := q174) (hlk := by rw [hM]; exact q1618) (hin := q1619) (hret := rfl) (mX10_init htr (Nat.le_refl _) hw) hd rfl rfl ⟨by decide, by decide, by show _ = some 3; decide +kernel⟩ hw8 ⟨hdd, by decide⟩ jcc0 (fun r9 g9 h9 => by obtain ⟨rfl, h⟩ := h9; exact kk g9 h) jNo.x
abbrev MX1_lawLine : jM := (yX1_lawLine, cX1_lawLine, 3, some (.object "VisitingHours$Line"), [])
theorem uX1_309_X1_lawLine {G : jG} {l : Launch} {M : jM} {d c n pc : Nat} {lv : List (Nat × Value)} {rest : List Value} {post : Option Value → List jC → Prop} {xp : String → List jC → Prop} (hM : M.1.cls = RX1) (htr : l.stackTraces = false) {sh : List jH} {V : Nat → Nat → Int32} {R : Nat → Nat → Option Nat} {x : Nat} (hT : jReg shX1 sh x) {f9 : Nat} (hdr : 11 + 4 * f9 + 3 ≤ d) (hREC : ∀ {sh : List jH} {V : Nat → Nat → Int32} {R : Nat → Nat → Option Nat} {c : Nat} {n : Nat} {Q : Option Nat → List jH → (Nat → Nat → Int32) → (Nat → Nat → Option Nat) → Prop} {X : String → List jH → (Nat → Nat → Int32) → (Nat → Nat → Option Nat) → Prop}, jReg shX1 sh x → wX1_atom x f9 sh V R c n Q X → JM G l MX1_atom (11 + 4 * f9) c n [.ref x] (mk sh V R) (jSq Q) (jSx X)) {c1 n1 cq nq : Nat} {Q : Option Nat → List jH → (Nat → Nat → Int32) → (Nat → Nat → Option Nat) → Prop} {X : String → List jH → (Nat → Nat → Int32) → (Nat → Nat → Option Nat) → Prop} (hd : decode M.2.1 pc = .ok (.invokevirtual 309, 3)) (hdd : 10 + 1 ≤ d) (hw8 : (rest.map fun v => v.category).sum ≤ 8) (hw : wX1_cond x (wX1_atom x f9) sh V R c1 n1 Q X) (hcc : c1 + c ≤ cq ∧ n1 + n ≤ nq) (kk : ∀ r sh' V' R', Q r sh' V' R' → J G l M d c n (pc + 3) lv (va_rf r :: rest) (mk sh' V' R') post xp) (kx : ∀ E sh' V' R', X E sh' V' R' → JX G l M d c n pc lv E (mk sh' V' R') post xp) : J G l M d cq nq pc lv (.ref x :: rest) (mk sh V R) post xp := by
  exact J.callV (As := []) (hcw := by rw [hM]; exact lw_V q1432 q1434 qs34 q144 q1435) (mX1_cond (d := d - 1) htr (by omega) hT (dr := 11 + 4 * f9) (by omega) hREC hw) hd rfl ⟨0, _, _, mk_at (hT.at 0 rfl), rfl, rfl, fun _ => rfl⟩ ⟨rfl, by decide, by decide, by show _ = some 0; decide +kernel⟩ hw8 ⟨by omega, by decide⟩ hcc (fun r9 g9 h9 => by obtain ⟨s9, V9, R9, rfl, r, rfl, h⟩ := h9; exact kk r s9 V9 R9 h) (fun E9 g9 h9 => by obtain ⟨s9, V9, R9, rfl, h⟩ := h9; exact kx E9 s9 V9 R9 h)
-- VisitingHours.lawLine()LVisitingHours$Line;
def wX1_lawLine_72 (x : Nat) (Q : Option Nat → List jH → (Nat → Nat → Int32) → (Nat → Nat → Option Nat) → Prop) (X : String → List jH → (Nat → Nat → Int32) → (Nat → Nat → Option Nat) → Prop) (sh : List jH) (V : Nat → Nat → Int32) (R : Nat → Nat → Option Nat) (c : Nat) (n : Nat) (s0 : Nat) (s1 : Nat) (s2 : Option Nat) (s3 : Int32) (s4 : Option Nat) : Prop :=
  (∃ b72_4, s2 = some b72_4 ∧ wX10_init (mk sh V R) s1 b72_4 s3 s4 (fun g72 => (∃ (sh72 : List jH) (V72 : Nat → Nat → Int32) (R72 : Nat → Nat → Option Nat), g72 = mk sh72 V72 R72 ∧ (jReg shX1 sh72 x ∧ Q (some s0) sh72 V72 R72))))
theorem rX1_lawLine_72 {G : jG} {l : Launch} {d : Nat} (htr : l.stackTraces = false) (hdd : 74 ≤ d) {x : Nat} {Q : Option Nat → List jH → (Nat → Nat → Int32) → (Nat → Nat → Option Nat) → Prop} {X : String → List jH → (Nat → Nat → Int32) → (Nat → Nat → Option Nat) → Prop} {sh : List jH} {V : Nat → Nat → Int32} {R : Nat → Nat → Option Nat} {c : Nat} {n : Nat} {s0 : Nat} {s1 : Nat} {s2 : Option Nat} {s3 : Int32} {s4 : Option Nat} (hT : jReg shX1 sh x) (hw : wX1_lawLine_72 x Q X sh V R c n s0 s1 s2 s3 s4) : J G l MX1_lawLine d c n 72 [] [va_rf s4, .int s3, va_rf s2, .ref s1, .ref s0] (mk sh V R) (jSq Q) (jSx X) := by
  unfold wX1_lawLine_72 at hw
  obtain ⟨b72_4, rfl, hw⟩ := hw
  refine niX1_369 rfl htr dX1_lawLine_72 (by omega) (Nat.le_of_ble_eq_true rfl) hw ?_
  clear hw
  intro g72 hw
  obtain ⟨sh72, V72, R72, rfl, hw⟩ := hw
  clear hT
  obtain ⟨hT, hw⟩ := hw
  exact J.aret rfl (Or.inl ⟨_, rfl⟩) (va_rf_nr (some s0)) dX1_lawLine_75 ⟨_, _, _, rfl, _, rfl, hw⟩
def wX1_lawLine_44 (x : Nat) (Q : Option Nat → List jH → (Nat → Nat → Int32) → (Nat → Nat → Option Nat) → Prop) (X : String → List jH → (Nat → Nat → Int32) → (Nat → Nat → Option Nat) → Prop) (sh : List jH) (V : Nat → Nat → Int32) (R : Nat → Nat → Option Nat) (c : Nat) (n : Nat) (x1 : Option Nat) (s0 : Int32) : Prop :=
  (∃ c45 n45, c = c45 + 1 ∧ n = n45 + 3 ∧ (∀ q45, q45 = sh.length → (∀ sh45 : List jH, sh45 = sh ++ [jF (.inr (8, [.null, .int 0, .null]))] → (∃ c158 n158 c258 n258 : Nat, c158 + c258 ≤ c45 ∧ n158 + n258 ≤ n45 ∧ (wX3_passes (x + 109) sh45 V R c158 n158 26 (fun r58 sh58 V58 R58 => (jReg shX1 sh58 x ∧ ((r58 = 0 → wX1_lawLine_72 x Q X sh58 V58 R58 c258 n258 q45 q45 x1 s0 none) ∧ (¬ r58 = 0 → (∃ c165 n165 c265 n265 : Nat, c165 + c265 ≤ c258 ∧ n165 + n265 ≤ n258 ∧ (∃ f65, f65 ≤ 12 ∧ (wX1_cond x (wX1_atom x f65) sh58 V58 R58 c165 n165 (fun r65 sh65 V65 R65 => (jReg shX1 sh65 x ∧ wX1_lawLine_72 x Q X sh65 V65 R65 c265 n265 q45 q45 x1 s0 r65)) (fun E9 shx Vx Rx => X E9 shx Vx Rx)))))))))))))
theorem rX1_lawLine_44 {G : jG} {l : Launch} {d : Nat} (htr : l.stackTraces = false) (hdd : 74 ≤ d) {x : Nat} {Q : Option Nat → List jH → (Nat → Nat → Int32) → (Nat → Nat → Option Nat) → Prop} {X : String → List jH → (Nat → Nat → Int32) → (Nat → Nat → Option Nat) → Prop} {sh : List jH} {V : Nat → Nat → Int32} {R : Nat → Nat → Option Nat} {c : Nat} {n : Nat} {x1 : Option Nat} {s0 : Int32} (hT : jReg shX1 sh x) (hw : wX1_lawLine_44 x Q X sh V R c n x1 s0) : J G l MX1_lawLine d c n 44 [(0, .ref x), (1, va_rf x1)] [.int s0] (mk sh V R) (jSq Q) (jSx X) := by
  unfold wX1_lawLine_44 at hw
  refine J.istore_n (lv' := [(2, .int s0), (0, .ref x), (1, va_rf x1)]) dX1_lawLine_44 (by decide) (by unfold jst1; simp only [List.filter_cons, List.filter_nil, va_rf_cat]; rfl) ?_
  obtain ⟨c45, n45, rfl, rfl, hw⟩ := hw
  refine J.new (C := RX10) (T0 := TX10) (N := 3) [.null, .int 0, .null] dX1_lawLine_45 (ci := 8) rfl in_X10 tyX10 tyX10_ok q1429 q1430 q174 rfl (fun _ => rfl) ?_
  rw [mk_len]
  refine J.nmr hw ?_
  clear hw
  intro q45 hw
  rw [mk_pushF]
  refine J.nmsE (fun sh45 e45 => ?_)
  specialize hw sh45 e45
  replace hT := jReg.apE hT e45
  refine J.dup dX1_lawLine_48 rfl ?_
  refine J.aloadQ_n 2 dX1_lawLine_49 rfl ?_
  refine J.iload_n 0 dX1_lawLine_50 rfl ?_
  refine J.aload_n 1 dX1_lawLine_51 rfl ?_
  refine fgX1_25 rfl hT dX1_lawLine_52 ?_
  refine J.ldcwS dX1_lawLine_55 jl_1431 (by decide) ?_
  obtain ⟨c158, n158, c258, n258, hc58, hd58, hw⟩ := hw
  refine uX1_182 rfl htr (hT.sub 109 2 rfl) dX1_lawLine_58 (by omega) (by cases x1 <;> exact Nat.le_of_ble_eq_true rfl) hw ⟨hc58, hd58⟩ ?_
  clear hw
  intro r58 sh58 V58 R58 hw
  clear hT
  obtain ⟨hT, hw⟩ := hw
  refine J.if_eq 71 dX1_lawLine_61 (by decide) ⟨fun c61 => ?_, fun c61 => ?_⟩
  · obtain ⟨hw, -⟩ := hw
    specialize hw c61
    refine J.null dX1_lawLine_71 ?_
    exact J.pick [] rfl (rX1_lawLine_72 htr hdd hT hw)
  · obtain ⟨-, hw⟩ := hw
    specialize hw c61
    refine J.aload_n 1 dX1_lawLine_64 rfl ?_
    obtain ⟨c165, n165, c265, n265, hc65, hd65, hw⟩ := hw
    obtain ⟨f65, hf65, hw⟩ := hw
    refine uX1_309_X1_lawLine rfl htr hT (by omega) (mX1_atom htr f65) dX1_lawLine_65 (by omega) (by cases x1 <;> exact Nat.le_of_ble_eq_true rfl) hw ⟨hc65, hd65⟩ ?_ ?_
    rotate_left
    · exact fun E9 shx Vx Rx h9 => JX.out (by rfl) ⟨_, _, _, rfl, h9⟩
    clear hw
    intro r65 sh65 V65 R65 hw
    clear hT
    obtain ⟨hT, hw⟩ := hw
    refine J.goto 72 dX1_lawLine_68 (by decide) ?_
    exact J.pick [] rfl (rX1_lawLine_72 htr hdd hT hw)
def wX1_lawLine (x : Nat) (sh : List jH) (V : Nat → Nat → Int32) (R : Nat → Nat → Option Nat) (c : Nat) (n : Nat) (Q : Option Nat → List jH → (Nat → Nat → Int32) → (Nat → Nat → Option Nat) → Prop) (X : String → List jH → (Nat → Nat → Int32) → (Nat → Nat → Option Nat) → Prop) : Prop :=
  (∃ c14 n14 c24 n24 : Nat, c14 + c24 ≤ c ∧ n14 + n24 ≤ n ∧ (wX3_word (x + 109) sh V R c14 n14 (fun r4 sh4 V4 R4 => (jReg shX1 sh4 x ∧ (∃ b7_1, r4 = some b7_1 ∧ (∃ c17 n17 c27 n27 : Nat, c17 + c27 ≤ c24 ∧ n17 + n27 ≤ n24 ∧ wX9_of (mk sh4 V4 R4) c17 n17 b7_1 (fun r7 g7 => (∃ (sh7 : List jH) (V7 : Nat → Nat → Int32) (R7 : Nat → Nat → Option Nat), g7 = mk sh7 V7 R7 ∧ (jReg shX1 sh7 x ∧ ((r7 = none → (∃ c119 n119 c219 n219 : Nat, c119 + c219 ≤ c27 ∧ n119 + n219 ≤ n27 ∧ (wX3_wrong (x + 109) sh7 V7 R7 c119 n119 (fun r19 sh19 V19 R19 => (jReg shX1 sh19 x ∧ (∃ b22_3, r19 = some b22_3 ∧ (∃ fs22 : List Value, (mk sh19 V19 R19)[b22_3]? = some (.inr (6, fs22)) ∧ jn ≤ b22_3 ∧ X "VisitingHours$Wrong" sh19 V19 R19))))))) ∧ (∀ b12_2, r7 = some b12_2 → ((b12_2 = 61 → wX1_lawLine_44 x Q X sh7 V7 R7 c27 n27 (some b12_2) (0 : Int32)) ∧ (¬ b12_2 = 61 → (jAp b12_2 61 ∧ (∃ c141 n141 c241 n241 : Nat, c141 + c241 ≤ c27 ∧ n141 + n241 ≤ n27 ∧ (wX3_number (x + 109) sh7 V7 R7 c141 n141 (0 : Int32) (99 : Int32) (fun r41 sh41 V41 R41 => (jReg shX1 sh41 x ∧ wX1_lawLine_44 x Q X sh41 V41 R41 c241 n241 (some b12_2) r41)) (fun E9 shx Vx Rx => X E9 shx Vx Rx)))))))))))))))))
theorem mX1_lawLine {G : jG} {l : Launch} {d : Nat} (htr : l.stackTraces = false) (hdd : 74 ≤ d) {sh : List jH} {V : Nat → Nat → Int32} {R : Nat → Nat → Option Nat} {c : Nat} {n : Nat} {x : Nat} (hT : jReg shX1 sh x) {Q : Option Nat → List jH → (Nat → Nat → Int32) → (Nat → Nat → Option Nat) → Prop} {X : String → List jH → (Nat → Nat → Int32) → (Nat → Nat → Option Nat) → Prop} (hw : wX1_lawLine x sh V R c n Q X) : JM G l MX1_lawLine d c n [.ref x] (mk sh V R) (jSq Q) (jSx X) := by
  refine JM.intro (by decide) rfl htr (Nat.le_of_ble_eq_true rfl) ?_
  show J G l MX1_lawLine d c n 0 [(0, .ref x)] [] (mk sh V R) _ _
  unfold wX1_lawLine at hw
  refine J.aload_n 0 dX1_lawLine_0 rfl ?_
  refine fgX1_25 rfl hT dX1_lawLine_1 ?_
  obtain ⟨c14, n14, c24, n24, hc4, hd4, hw⟩ := hw
  refine uX1_86 rfl htr (hT.sub 109 2 rfl) dX1_lawLine_4 (by omega) (Nat.le_of_ble_eq_true rfl) hw ⟨hc4, hd4⟩ ?_
  clear hw
  intro r4 sh4 V4 R4 hw
  clear hT
  obtain ⟨hT, hw⟩ := hw
  obtain ⟨b7_1, rfl, hw⟩ := hw
  obtain ⟨c17, n17, c27, n27, hc7, hd7, hw⟩ := hw
  refine nrX1_356 rfl htr dX1_lawLine_7 (by omega) (Nat.le_of_ble_eq_true rfl) hw ⟨hc7, hd7⟩ ?_
  clear hw
  intro r7 g7 hw
  obtain ⟨sh7, V7, R7, rfl, hw⟩ := hw
  clear hT
  obtain ⟨hT, hw⟩ := hw
  refine J.astoreQ_n (lv' := [(1, va_rf r7), (0, .ref x)]) dX1_lawLine_10 (by decide) rfl ?_
  refine J.aloadQ_n 0 dX1_lawLine_11 rfl ?_
  refine J.ifnonnullQ 23 dX1_lawLine_12 (by decide) (fun b12_2 e9 => ?_) (fun e9 => ?_)
  · subst e9
    obtain ⟨-, hw⟩ := hw
    specialize hw _ rfl
    refine J.aload_n 0 dX1_lawLine_23 rfl ?_
    refine J.gets (q := ("VisitingHours$Kind", "ADMIT", "LVisitingHours$Kind;", .ref 61)) dX1_lawLine_24 (List.mem_of_getElem? (i := 0) rfl) q1428 (by show _ < jn; decide) ?_
    by_cases c27 : b12_2 = 61
    · obtain ⟨hw, -⟩ := hw
      specialize hw c27
      refine J.acnpE (tgt := 34) dX1_lawLine_27 (by decide) c27 ?_
      refine J.iconst (v := (0 : Int32)) dX1_lawLine_30 (by decide) ?_
      refine J.goto 44 dX1_lawLine_31 (by decide) ?_
      exact J.pick [1, 0] rfl (rX1_lawLine_44 htr hdd hT hw)
    · obtain ⟨-, hw⟩ := hw
      specialize hw c27
      obtain ⟨h27, hw⟩ := hw
      refine J.acnpD (tgt := 34) dX1_lawLine_27 (by decide) h27 ?_
      refine J.aload_n 1 dX1_lawLine_34 rfl ?_
      refine fgX1_25 rfl hT dX1_lawLine_35 ?_
      refine J.iconst (v := (0 : Int32)) dX1_lawLine_38 (by decide) ?_
      refine J.bipush (v := (99 : Int32)) dX1_lawLine_39 (by decide) ?_
      obtain ⟨c141, n141, c241, n241, hc41, hd41, hw⟩ := hw
      refine uX1_104 rfl htr (hT.sub 109 2 rfl) dX1_lawLine_41 (by omega) (Nat.le_of_ble_eq_true rfl) hw ⟨hc41, hd41⟩ ?_ ?_
      rotate_left
      · exact fun E9 shx Vx Rx h9 => JX.out (by rfl) ⟨_, _, _, rfl, h9⟩
      clear hw
      intro r41 sh41 V41 R41 hw
      clear hT
      obtain ⟨hT, hw⟩ := hw
      exact J.pick [1, 0] rfl (rX1_lawLine_44 htr hdd hT hw)
  · subst e9
    obtain ⟨hw, -⟩ := hw
    specialize hw rfl
    refine J.aload_n 1 dX1_lawLine_15 rfl ?_
    refine fgX1_25 rfl hT dX1_lawLine_16 ?_
    obtain ⟨c119, n119, c219, n219, hc19, hd19, hw⟩ := hw
    refine uX1_96 rfl htr (hT.sub 109 2 rfl) dX1_lawLine_19 (by omega) (Nat.le_of_ble_eq_true rfl) hw ⟨hc19, hd19⟩ ?_
    clear hw
    intro r19 sh19 V19 R19 hw
    clear hT
    obtain ⟨hT, hw⟩ := hw
    obtain ⟨b22_3, rfl, hw⟩ := hw
    obtain ⟨fs22, hk22, hn22, hw⟩ := hw
    exact J.athrow dX1_lawLine_22 hn22 hk22 rfl rfl (JX.out (by rfl) ⟨_, _, _, rfl, hw⟩)
theorem niX1_374 {G : jG} {l : Launch} {M : jM} {d c n pc : Nat} {lv : List (Nat × Value)} {rest : List Value} {g : List jC} {post : Option Value → List jC → Prop} {xp : String → List jC → Prop} (hM : M.1.cls = RX1) (htr : l.stackTraces = false) {h : Nat} {c1 n1 cq nq : Nat} {Q : List jC → Prop} (hd : decode M.2.1 pc = .ok (.invokespecial 374, 3)) (hdd : 4 + 1 ≤ d) (hw8 : (rest.map fun v => v.category).sum ≤ 8) (hw : wX8_init g c1 n1 h Q) (hcc : c1 + c ≤ cq ∧ n1 + n ≤ nq) (kk : ∀ g', Q g' → J G l M d c n (pc + 3) lv rest g' post xp) : J G l M d cq nq pc lv (.ref h :: rest) g post xp :=
  J.callIN (M' := MX8_init) (As := []) (hcw := lw_meth q1400) (hlk := by rw [hM]; exact nw1398) (hini := q171) (hin := q1399) (hret := rfl) (mX8_init htr (Nat.le_refl _) hw) hd rfl rfl ⟨by decide, by decide, by show _ = some 0; decide +kernel⟩ hw8 ⟨hdd, by decide⟩ hcc (fun r9 g9 h9 => by obtain ⟨rfl, h⟩ := h9; exact kk g9 h) jNo.x
theorem nrX1_378 {G : jG} {l : Launch} {M : jM} {d c n pc : Nat} {lv : List (Nat × Value)} {rest : List Value} {g : List jC} {post : Option Value → List jC → Prop} {xp : String → List jC → Prop} (hM : M.1.cls = RX1) (htr : l.stackTraces = false) {h : Nat} {fs9 : List Value} (hk9 : g[h]? = some (.inr (15, fs9))) {Q : Int32 → Prop} (hd : decode M.2.1 pc = .ok (.invokevirtual 378, 3)) (hdd : 0 + 1 ≤ d) (hw8 : (rest.map fun v => v.category).sum ≤ 8) (hw : wJ2_size g h Q) (kk : ∀ r, Q r → J G l M d c n (pc + 3) lv (.int r :: rest) g post xp) : J G l M d c n pc lv (.ref h :: rest) g post xp :=
  J.callV (As := []) (hcw := by rw [hM]; exact lw_V q762 q538 q539 q150 q540) (mJ2_size htr (Nat.le_refl _) hw) hd rfl ⟨15, _, _, hk9, rfl, rfl, fun _ => rfl⟩ ⟨rfl, by decide, by decide, by show _ = some 0; decide +kernel⟩ hw8 ⟨hdd, by decide⟩ jcc0 (fun r9 g9 h9 => by obtain ⟨rfl, r, rfl, h⟩ := h9; exact kk r h) jNo.x
abbrev MX1_lawText : jM := (yX1_lawText, cX1_lawText, 2, some (.object "VisitingHours$Law"), [])
theorem uX1_381 {G : jG} {l : Launch} {M : jM} {d c n pc : Nat} {lv : List (Nat × Value)} {rest : List Value} {post : Option Value → List jC → Prop} {xp : String → List jC → Prop} (hM : M.1.cls = RX1) (htr : l.stackTraces = false) {sh : List jH} {V : Nat → Nat → Int32} {R : Nat → Nat → Option Nat} {x : Nat} (hT : jReg shX1 sh x) {c1 n1 cq nq : Nat} {Q : Option Nat → List jH → (Nat → Nat → Int32) → (Nat → Nat → Option Nat) → Prop} {X : String → List jH → (Nat → Nat → Int32) → (Nat → Nat → Option Nat) → Prop} (hd : decode M.2.1 pc = .ok (.invokevirtual 381, 3)) (hdd : 74 + 1 ≤ d) (hw8 : (rest.map fun v => v.category).sum ≤ 8) (hw : wX1_lawLine x sh V R c1 n1 Q X) (hcc : c1 + c ≤ cq ∧ n1 + n ≤ nq) (kk : ∀ r sh' V' R', Q r sh' V' R' → J G l M d c n (pc + 3) lv (va_rf r :: rest) (mk sh' V' R') post xp) (kx : ∀ E sh' V' R', X E sh' V' R' → JX G l M d c n pc lv E (mk sh' V' R') post xp) : J G l M d cq nq pc lv (.ref x :: rest) (mk sh V R) post xp := by
  exact J.callV (As := []) (hcw := by rw [hM]; exact lw_V q1409 q1411 qs33 q144 q1412) (mX1_lawLine htr (Nat.le_refl _) hT hw) hd rfl ⟨0, _, _, mk_at (hT.at 0 rfl), rfl, rfl, fun _ => rfl⟩ ⟨rfl, by decide, by decide, by show _ = some 0; decide +kernel⟩ hw8 ⟨hdd, by decide⟩ hcc (fun r9 g9 h9 => by obtain ⟨s9, V9, R9, rfl, r, rfl, h⟩ := h9; exact kk r s9 V9 R9 h) (fun E9 g9 h9 => by obtain ⟨s9, V9, R9, rfl, h⟩ := h9; exact kx E9 s9 V9 R9 h)
-- VisitingHours.lawText()LVisitingHours$Law;
def wX1_lawText_20 (x : Nat) (Q : Option Nat → List jH → (Nat → Nat → Int32) → (Nat → Nat → Option Nat) → Prop) (X : String → List jH → (Nat → Nat → Int32) → (Nat → Nat → Option Nat) → Prop) : Nat → List jH → (Nat → Nat → Int32) → (Nat → Nat → Option Nat) → Nat → Nat → Nat → Prop
  | 0, _, _, _, _, _, _ => False
  | f + 1, sh, V, R, c, n, x1 =>
    (∃ fs22 : List Value, (mk sh V R)[x1]? = some (.inr (7, fs22)) ∧ jn ≤ x1 ∧ ∃ v22 : Option Nat, fs22[0]? = some (va_rf v22) ∧ (∃ b25_1, v22 = some b25_1 ∧ (∃ fs25 : List Value, (mk sh V R)[b25_1]? = some (.inr (15, fs25)) ∧ wJ2_size (mk sh V R) b25_1 (fun r25 => (∃ c130 n130 c230 n230 : Nat, c130 + c230 ≤ c ∧ n130 + n230 ≤ n ∧ (wX1_noMore x sh V R c130 n130 r25 (12 : Int32) (fun sh30 V30 R30 => (jReg shX1 sh30 x ∧ (∃ fs34 : List Value, (mk sh30 V30 R30)[x1]? = some (.inr (7, fs34)) ∧ jn ≤ x1 ∧ ∃ v34 : Option Nat, fs34[0]? = some (va_rf v34) ∧ (∃ c138 n138 c238 n238 : Nat, c138 + c238 ≤ c230 ∧ n138 + n238 ≤ n230 ∧ (wX1_lawLine x sh30 V30 R30 c138 n138 (fun r38 sh38 V38 R38 => (jReg shX1 sh38 x ∧ (∃ b41_2, r38 = some b41_2 ∧ (∃ b41_3, v34 = some b41_3 ∧ (∃ fs41 : List Value, (mk sh38 V38 R38)[b41_3]? = some (.inr (15, fs41)) ∧ (∃ c141 n141 c241 n241 : Nat, c141 + c241 ≤ c238 ∧ n141 + n241 ≤ n238 ∧ wJ2_add (mk sh38 V38 R38) c141 n141 b41_3 b41_2 (fun r41 g41 => (∃ (sh41 : List jH) (V41 : Nat → Nat → Int32) (R41 : Nat → Nat → Option Nat), g41 = mk sh41 V41 R41 ∧ (jReg shX1 sh41 x ∧ (∃ c146 n146 c246 n246 : Nat, c146 + c246 ≤ c241 ∧ n146 + n246 ≤ n241 ∧ (wX1_goesOn x sh41 V41 R41 c146 n146 (fun r46 sh46 V46 R46 => (jReg shX1 sh46 x ∧ ((¬ r46 = 0 → wX1_lawText_20 x Q X f sh46 V46 R46 c246 n246 x1) ∧ (r46 = 0 → Q (some x1) sh46 V46 R46)))) (fun E9 shx Vx Rx => X E9 shx Vx Rx)))))))))))) (fun E9 shx Vx Rx => X E9 shx Vx Rx)))))) (fun E9 shx Vx Rx => X E9 shx Vx Rx)))))))
theorem rX1_lawText_20 {G : jG} {l : Launch} {d : Nat} (htr : l.stackTraces = false) (hdd : 75 ≤ d) {x : Nat} {Q : Option Nat → List jH → (Nat → Nat → Int32) → (Nat → Nat → Option Nat) → Prop} {X : String → List jH → (Nat → Nat → Int32) → (Nat → Nat → Option Nat) → Prop} : ∀ (f : Nat) (sh : List jH) (V : Nat → Nat → Int32) (R : Nat → Nat → Option Nat) (c : Nat) (n : Nat) (x1 : Nat) (hT : jReg shX1 sh x), wX1_lawText_20 x Q X f sh V R c n x1 → J G l MX1_lawText d c n 20 [(0, .ref x), (1, .ref x1)] [] (mk sh V R) (jSq Q) (jSx X) := by
  intro f
  induction f with
  | zero =>
    intro sh V R c n x1 hT hw
    rw [wX1_lawText_20] at hw
    exact hw.elim
  | succ f ih =>
    intro sh V R c n x1 hT hw
    rw [wX1_lawText_20] at hw
    refine J.aload_n 0 dX1_lawText_20 rfl ?_
    refine J.aload_n 1 dX1_lawText_21 rfl ?_
    obtain ⟨fs22, hk22, hn22, v22, hv22, hw⟩ := hw
    refine J.getfN (C := RX8) (T0 := TX8) (N := 1) 0 dX1_lawText_22 hn22 hk22 rfl in_X8 (by decide) nw1405 hv22 ?_
    obtain ⟨b25_1, rfl, hw⟩ := hw
    obtain ⟨fs25, hk25, hw⟩ := hw
    refine nrX1_378 rfl htr hk25 dX1_lawText_25 (by omega) (Nat.le_of_ble_eq_true rfl) hw ?_
    clear hw
    intro r25 hw
    refine J.bipush (v := (12 : Int32)) dX1_lawText_28 (by decide) ?_
    obtain ⟨c130, n130, c230, n230, hc30, hd30, hw⟩ := hw
    refine uX1_237 rfl htr hT dX1_lawText_30 (by omega) (Nat.le_of_ble_eq_true rfl) hw ⟨hc30, hd30⟩ ?_ ?_
    rotate_left
    · exact fun E9 shx Vx Rx h9 => JX.out (by rfl) ⟨_, _, _, rfl, h9⟩
    clear hw
    intro sh30 V30 R30 hw
    clear hT
    obtain ⟨hT, hw⟩ := hw
    refine J.aload_n 1 dX1_lawText_33 rfl ?_
    obtain ⟨fs34, hk34, hn34, v34, hv34, hw⟩ := hw
    refine J.getfN (C := RX8) (T0 := TX8) (N := 1) 0 dX1_lawText_34 hn34 hk34 rfl in_X8 (by decide) nw1405 hv34 ?_
    refine J.aload_n 0 dX1_lawText_37 rfl ?_
    obtain ⟨c138, n138, c238, n238, hc38, hd38, hw⟩ := hw
    refine uX1_381 rfl htr hT dX1_lawText_38 (by omega) (by cases v34 <;> exact Nat.le_of_ble_eq_true rfl) hw ⟨hc38, hd38⟩ ?_ ?_
    rotate_left
    · exact fun E9 shx Vx Rx h9 => JX.out (by rfl) ⟨_, _, _, rfl, h9⟩
    clear hw
    intro r38 sh38 V38 R38 hw
    clear hT
    obtain ⟨hT, hw⟩ := hw
    obtain ⟨b41_2, rfl, hw⟩ := hw
    obtain ⟨b41_3, rfl, hw⟩ := hw
    obtain ⟨fs41, hk41, hw⟩ := hw
    obtain ⟨c141, n141, c241, n241, hc41, hd41, hw⟩ := hw
    refine nrX1_304 rfl htr hk41 dX1_lawText_41 (by omega) (Nat.le_of_ble_eq_true rfl) hw ⟨hc41, hd41⟩ ?_
    clear hw
    intro r41 g41 hw
    obtain ⟨sh41, V41, R41, rfl, hw⟩ := hw
    clear hT
    obtain ⟨hT, hw⟩ := hw
    refine J.pop dX1_lawText_44 rfl ?_
    refine J.aload_n 0 dX1_lawText_45 rfl ?_
    obtain ⟨c146, n146, c246, n246, hc46, hd46, hw⟩ := hw
    refine uX1_244 rfl htr hT dX1_lawText_46 (by omega) (Nat.le_of_ble_eq_true rfl) hw ⟨hc46, hd46⟩ ?_ ?_
    rotate_left
    · exact fun E9 shx Vx Rx h9 => JX.out (by rfl) ⟨_, _, _, rfl, h9⟩
    clear hw
    intro r46 sh46 V46 R46 hw
    clear hT
    obtain ⟨hT, hw⟩ := hw
    refine J.if_ne 20 dX1_lawText_49 (by decide) ⟨fun c49 => ?_, fun c49 => ?_⟩
    · obtain ⟨hw, -⟩ := hw
      specialize hw c49
      exact (ih _ _ _ _ _ _ hT hw)
    · obtain ⟨-, hw⟩ := hw
      specialize hw c49
      refine J.aload_n 1 dX1_lawText_52 rfl ?_
      exact J.aret rfl (Or.inl ⟨_, rfl⟩) (va_rf_nr (some x1)) dX1_lawText_53 ⟨_, _, _, rfl, _, rfl, hw⟩
def wX1_lawText (x : Nat) (sh : List jH) (V : Nat → Nat → Int32) (R : Nat → Nat → Option Nat) (c : Nat) (n : Nat) (Q : Option Nat → List jH → (Nat → Nat → Int32) → (Nat → Nat → Option Nat) → Prop) (X : String → List jH → (Nat → Nat → Int32) → (Nat → Nat → Option Nat) → Prop) : Prop :=
  (∃ c0 n0, c = c0 + 1 ∧ n = n0 + 1 ∧ (∀ q0, q0 = sh.length → (∀ sh0 : List jH, sh0 = sh ++ [jF (.inr (7, [.null]))] → (∃ c14 n14 c24 n24 : Nat, c14 + c24 ≤ c0 ∧ n14 + n24 ≤ n0 ∧ wX8_init (mk sh0 V R) c14 n14 q0 (fun g4 => (∃ (sh4 : List jH) (V4 : Nat → Nat → Int32) (R4 : Nat → Nat → Option Nat), g4 = mk sh4 V4 R4 ∧ (jReg shX1 sh4 x ∧ (wX3_isOver (x + 109) V4 (fun r12 V12 => ((r12 = 0 → (∃ f9, wX1_lawText_20 x Q X f9 sh4 V12 R4 c24 n24 q0)) ∧ (¬ r12 = 0 → Q (some q0) sh4 V12 R4)))))))))))
theorem mX1_lawText {G : jG} {l : Launch} {d : Nat} (htr : l.stackTraces = false) (hdd : 75 ≤ d) {sh : List jH} {V : Nat → Nat → Int32} {R : Nat → Nat → Option Nat} {c : Nat} {n : Nat} {x : Nat} (hT : jReg shX1 sh x) {Q : Option Nat → List jH → (Nat → Nat → Int32) → (Nat → Nat → Option Nat) → Prop} {X : String → List jH → (Nat → Nat → Int32) → (Nat → Nat → Option Nat) → Prop} (hw : wX1_lawText x sh V R c n Q X) : JM G l MX1_lawText d c n [.ref x] (mk sh V R) (jSq Q) (jSx X) := by
  refine JM.intro (by decide) rfl htr (Nat.le_of_ble_eq_true rfl) ?_
  show J G l MX1_lawText d c n 0 [(0, .ref x)] [] (mk sh V R) _ _
  unfold wX1_lawText at hw
  obtain ⟨c0, n0, rfl, rfl, hw⟩ := hw
  refine J.new (C := RX8) (T0 := TX8) (N := 1) [.null] dX1_lawText_0 (ci := 7) rfl in_X8 tyX8 tyX8_ok q1396 q1397 q171 rfl (fun _ => rfl) ?_
  rw [mk_len]
  refine J.nmr hw ?_
  clear hw
  intro q0 hw
  rw [mk_pushF]
  refine J.nmsE (fun sh0 e0 => ?_)
  specialize hw sh0 e0
  replace hT := jReg.apE hT e0
  refine J.dup dX1_lawText_3 rfl ?_
  obtain ⟨c14, n14, c24, n24, hc4, hd4, hw⟩ := hw
  refine niX1_374 rfl htr dX1_lawText_4 (by omega) (Nat.le_of_ble_eq_true rfl) hw ⟨hc4, hd4⟩ ?_
  clear hw
  intro g4 hw
  obtain ⟨sh4, V4, R4, rfl, hw⟩ := hw
  clear hT
  obtain ⟨hT, hw⟩ := hw
  refine J.astore_n (lv' := [(1, .ref q0), (0, .ref x)]) dX1_lawText_7 (by decide) rfl ?_
  refine J.aload_n 1 dX1_lawText_8 rfl ?_
  refine fgX1_25 rfl hT dX1_lawText_9 ?_
  refine uX1_233 rfl htr (hT.sub 109 2 rfl) dX1_lawText_12 (by omega) (Nat.le_of_ble_eq_true rfl) hw ?_
  clear hw
  intro r12 V12 hw
  refine J.if_eq 20 dX1_lawText_15 (by decide) ⟨fun c15 => ?_, fun c15 => ?_⟩
  · obtain ⟨hw, -⟩ := hw
    specialize hw c15
    obtain ⟨f9, hw⟩ := hw
    exact J.pick [1, 0] rfl (rX1_lawText_20 htr hdd f9 _ _ _ _ _ _ hT hw)
  · obtain ⟨-, hw⟩ := hw
    specialize hw c15
    refine J.aload_n 0 dX1_lawText_18 rfl ?_
    exact J.aret rfl (Or.inl ⟨_, rfl⟩) (va_rf_nr (some q0)) dX1_lawText_19 ⟨_, _, _, rfl, _, rfl, hw⟩
theorem fpX1_389 {G : jG} {l : Launch} {M : jM} {d c n pc : Nat} {lv : List (Nat × Value)} {st : List Value} {sh : List jH} {V : Nat → Nat → Int32} {R : Nat → Nat → Option Nat} {post : Option Value → List jC → Prop} {xp : String → List jC → Prop} {w : Nat} (hM : M.1.cls = RX1) (hT : jReg shX2 sh w) {o9 : Option Nat} (hd : decode M.2.1 pc = .ok (.putfield 389, 3)) (kk : J G l M d c n (pc + 3) lv st (mk sh V (rset R w 20 o9)) post xp) : J G l M d c n pc lv (va_rf o9 :: .ref w :: st) (mk sh V R) post xp := JV.putrN (C := RX2) (T0 := TX2) (N := 22) (o := 0) 20 hd hT.1 (hT.at 0 rfl) rfl in_X2 tyX2 tyX2_ok nmX2 (by decide) (by rw [hM]; exact nw248) rfl rfl (jq_put _ (Or.inl ⟨_, rfl⟩)) rfl kk
theorem fgX1_389 {G : jG} {l : Launch} {M : jM} {d c n pc : Nat} {lv : List (Nat × Value)} {st : List Value} {sh : List jH} {V : Nat → Nat → Int32} {R : Nat → Nat → Option Nat} {post : Option Value → List jC → Prop} {xp : String → List jC → Prop} {w : Nat} (hM : M.1.cls = RX1) (hT : jReg shX2 sh w) (hd : decode M.2.1 pc = .ok (.getfield 389, 3)) (kk : J G l M d c n (pc + 3) lv (va_rf (R w 20) :: st) (mk sh V R) post xp) : J G l M d c n pc lv (.ref w :: st) (mk sh V R) post xp := JV.getfN (C := RX2) (T0 := TX2) (N := 22) 20 hd hT.1 (hT.at 0 rfl) rfl in_X2 (by decide) (by rw [hM]; exact nw248) rfl rfl kk
abbrev MX1_law : jM := (yX1_law, cX1_law, 2, some .int, [(7, 26, 29, 266)])
theorem uX1_385 {G : jG} {l : Launch} {M : jM} {d c n pc : Nat} {lv : List (Nat × Value)} {rest : List Value} {post : Option Value → List jC → Prop} {xp : String → List jC → Prop} (hM : M.1.cls = RX1) (htr : l.stackTraces = false) {sh : List jH} {V : Nat → Nat → Int32} {R : Nat → Nat → Option Nat} {x : Nat} (hT : jReg shX1 sh x) {c1 n1 cq nq : Nat} {Q : Option Nat → List jH → (Nat → Nat → Int32) → (Nat → Nat → Option Nat) → Prop} {X : String → List jH → (Nat → Nat → Int32) → (Nat → Nat → Option Nat) → Prop} (hd : decode M.2.1 pc = .ok (.invokevirtual 385, 3)) (hdd : 75 + 1 ≤ d) (hw8 : (rest.map fun v => v.category).sum ≤ 8) (hw : wX1_lawText x sh V R c1 n1 Q X) (hcc : c1 + c ≤ cq ∧ n1 + n ≤ nq) (kk : ∀ r sh' V' R', Q r sh' V' R' → J G l M d c n (pc + 3) lv (va_rf r :: rest) (mk sh' V' R') post xp) (kx : ∀ E sh' V' R', X E sh' V' R' → JX G l M d c n pc lv E (mk sh' V' R') post xp) : J G l M d cq nq pc lv (.ref x :: rest) (mk sh V R) post xp := by
  exact J.callV (As := []) (hcw := by rw [hM]; exact lw_V q1392 q1394 qs32 q144 q1395) (mX1_lawText htr (Nat.le_refl _) hT hw) hd rfl ⟨0, _, _, mk_at (hT.at 0 rfl), rfl, rfl, fun _ => rfl⟩ ⟨rfl, by decide, by decide, by show _ = some 0; decide +kernel⟩ hw8 ⟨hdd, by decide⟩ hcc (fun r9 g9 h9 => by obtain ⟨s9, V9, R9, rfl, r, rfl, h⟩ := h9; exact kk r s9 V9 R9 h) (fun E9 g9 h9 => by obtain ⟨s9, V9, R9, rfl, h⟩ := h9; exact kx E9 s9 V9 R9 h)
-- VisitingHours.law()I
def wX1_law (x : Nat) (sh : List jH) (V : Nat → Nat → Int32) (R : Nat → Nat → Option Nat) (c : Nat) (n : Nat) (Q : Int32 → List jH → (Nat → Nat → Int32) → (Nat → Nat → Option Nat) → Prop) (X : String → List jH → (Nat → Nat → Int32) → (Nat → Nat → Option Nat) → Prop) : Prop :=
  (wX3_begins (x + 109) V (fun V4 => (∃ c112 n112 c212 n212 : Nat, c112 + c212 ≤ c ∧ n112 + n212 ≤ n ∧ (wX1_lawText x sh V4 R c112 n112 (fun r12 sh12 V12 R12 => (jReg shX1 sh12 x ∧ (∃ fs38 : List Value, (mk sh12 (vset V12 (x + 109) 5 (-1 : Int32)) (rset R12 (x + 1) 20 r12))[(x + 148)]? = some (.inr (15, fs38)) ∧ wJ2_clear (mk sh12 (vset V12 (x + 109) 5 (-1 : Int32)) (rset R12 (x + 1) 20 r12)) (x + 148) (fun g38 => (∃ (sh38 : List jH) (V38 : Nat → Nat → Int32) (R38 : Nat → Nat → Option Nat), g38 = mk sh38 V38 R38 ∧ (jReg shX1 sh38 x ∧ (∀ o45 : Option Nat, o45 = (R38 (x + 1) 20) → (∃ b48_3, o45 = some b48_3 ∧ (∃ fs48 : List Value, (mk sh38 V38 R38)[b48_3]? = some (.inr (7, fs48)) ∧ jn ≤ b48_3 ∧ ∃ v48 : Option Nat, fs48[0]? = some (va_rf v48) ∧ (∃ b51_4, v48 = some b51_4 ∧ (∃ fs51 : List Value, (mk sh38 V38 R38)[b51_4]? = some (.inr (15, fs51)) ∧ wJ2_size (mk sh38 V38 R38) b51_4 (fun r51 => Q r51 sh38 V38 R38)))))))))))) (fun E9 shx Vx Rx => (jReg shX1 shx x ∧ ((E9 = "VisitingHours$Wrong" ∧ ((wX1_fails x Vx (fun V31 => (∃ fs38 : List Value, (mk shx V31 Rx)[(x + 148)]? = some (.inr (15, fs38)) ∧ wJ2_clear (mk shx V31 Rx) (x + 148) (fun g38 => (∃ (sh38 : List jH) (V38 : Nat → Nat → Int32) (R38 : Nat → Nat → Option Nat), g38 = mk sh38 V38 R38 ∧ (jReg shX1 sh38 x ∧ (∀ o45 : Option Nat, o45 = (R38 (x + 1) 20) → (∃ b48_1, o45 = some b48_1 ∧ (∃ fs48 : List Value, (mk sh38 V38 R38)[b48_1]? = some (.inr (7, fs48)) ∧ jn ≤ b48_1 ∧ ∃ v48 : Option Nat, fs48[0]? = some (va_rf v48) ∧ (∃ b51_2, v48 = some b51_2 ∧ (∃ fs51 : List Value, (mk sh38 V38 R38)[b51_2]? = some (.inr (15, fs51)) ∧ wJ2_size (mk sh38 V38 R38) b51_2 (fun r51 => Q r51 sh38 V38 R38))))))))))) (fun _ _ => False)) ∨ (wX1_fails x Vx (fun _ => False) (fun E9 Vx => X E9 shx Vx Rx) ∧ 1 ≤ c212 ∧ 6 ≤ n212))))))))))
theorem mX1_law {G : jG} {l : Launch} {d : Nat} (htr : l.stackTraces = false) (hdd : 76 ≤ d) {sh : List jH} {V : Nat → Nat → Int32} {R : Nat → Nat → Option Nat} {c : Nat} {n : Nat} {x : Nat} (hT : jReg shX1 sh x) {Q : Int32 → List jH → (Nat → Nat → Int32) → (Nat → Nat → Option Nat) → Prop} {X : String → List jH → (Nat → Nat → Int32) → (Nat → Nat → Option Nat) → Prop} (hw : wX1_law x sh V R c n Q X) : JM G l MX1_law d c n [.ref x] (mk sh V R) (jSr Q) (jSx X) := by
  refine JM.introH (h9 := _) (t9 := _) (by decide) rfl htr (Nat.le_of_ble_eq_true rfl) ?_
  show J G l MX1_law d c n 0 [(0, .ref x)] [] (mk sh V R) _ _
  unfold wX1_law at hw
  refine J.aload_n 0 dX1_law_0 rfl ?_
  refine fgX1_25 rfl hT dX1_law_1 ?_
  refine uX1_256 rfl htr (hT.sub 109 2 rfl) dX1_law_4 (by omega) (Nat.le_of_ble_eq_true rfl) hw ?_
  clear hw
  intro V4 hw
  refine J.aload_n 0 dX1_law_7 rfl ?_
  refine fgX1_10 rfl hT dX1_law_8 ?_
  refine J.aload_n 0 dX1_law_11 rfl ?_
  obtain ⟨c112, n112, c212, n212, hc12, hd12, hw⟩ := hw
  refine uX1_385 rfl htr hT dX1_law_12 (by omega) (Nat.le_of_ble_eq_true rfl) hw ⟨hc12, hd12⟩ ?_ ?_
  rotate_left
  · clear hw
    intro E9 shx Vx Rx hw
    clear hT
    obtain ⟨hT, hw⟩ := hw
    obtain ⟨rfl, hw⟩ := hw
    refine JX.catch1 (nm := "VisitingHours$Wrong") (tableOf []) (jent (7, 26, 29, 266)) (tableOf []) rfl (fun _ h => absurd h List.not_mem_nil) (by decide) (by decide) q813 nw1179 dX1_law_29 (by decide) ?_
    refine J.aload_n 0 dX1_law_30 rfl ?_
    rcases hw with hw | hw
    rotate_left
    · refine uxX1_268 rfl htr hT dX1_law_31 (by omega) (Nat.le_of_ble_eq_true rfl) hw.1 (Or.inr hw.2) ?_
      exact fun E9 Vx h9 => JX.out (by decide) ⟨_, _, _, rfl, h9⟩
    refine uX1_268 rfl htr hT dX1_law_31 (by omega) (Nat.le_of_ble_eq_true rfl) hw ?_
    clear hw
    intro V31 hw
    refine J.aload_n 0 dX1_law_34 rfl ?_
    refine fgX1_42 rfl hT dX1_law_35 ?_
    obtain ⟨fs38, hk38, hw⟩ := hw
    refine nrX1_277 rfl htr hk38 dX1_law_38 (by omega) (Nat.le_of_ble_eq_true rfl) hw ?_
    clear hw
    intro g38 hw
    obtain ⟨sh38, V38, R38, rfl, hw⟩ := hw
    clear hT
    obtain ⟨hT, hw⟩ := hw
    refine J.aload_n 0 dX1_law_41 rfl ?_
    refine fgX1_10 rfl hT dX1_law_42 ?_
    refine fgX1_389 rfl (hT.sub 1 36 rfl) dX1_law_45 ?_
    refine J.nmq hw ?_
    clear hw
    intro o45 hw
    obtain ⟨b48_1, rfl, hw⟩ := hw
    obtain ⟨fs48, hk48, hn48, v48, hv48, hw⟩ := hw
    refine J.getfN (C := RX8) (T0 := TX8) (N := 1) 0 dX1_law_48 hn48 hk48 rfl in_X8 (by decide) nw1405 hv48 ?_
    obtain ⟨b51_2, rfl, hw⟩ := hw
    obtain ⟨fs51, hk51, hw⟩ := hw
    refine nrX1_378 rfl htr hk51 dX1_law_51 (by omega) (Nat.le_of_ble_eq_true rfl) hw ?_
    clear hw
    intro r51 hw
    exact J.iret rfl dX1_law_54 ⟨_, _, _, rfl, _, rfl, hw⟩
  clear hw
  intro r12 sh12 V12 R12 hw
  clear hT
  obtain ⟨hT, hw⟩ := hw
  refine fpX1_389 (o9 := r12) rfl (hT.sub 1 36 rfl) dX1_law_15 ?_
  refine J.aload_n 0 dX1_law_18 rfl ?_
  refine fgX1_25 rfl hT dX1_law_19 ?_
  refine J.iconst (v := (-1 : Int32)) dX1_law_22 (by decide) ?_
  refine fpX1_82 rfl (hT.sub 109 2 rfl) dX1_law_23 ?_
  refine J.goto 34 dX1_law_26 (by decide) ?_
  refine J.aload_n 0 dX1_law_34 rfl ?_
  refine fgX1_42 rfl hT dX1_law_35 ?_
  obtain ⟨fs38, hk38, hw⟩ := hw
  refine nrX1_277 rfl htr hk38 dX1_law_38 (by omega) (Nat.le_of_ble_eq_true rfl) hw ?_
  clear hw
  intro g38 hw
  obtain ⟨sh38, V38, R38, rfl, hw⟩ := hw
  clear hT
  obtain ⟨hT, hw⟩ := hw
  refine J.aload_n 0 dX1_law_41 rfl ?_
  refine fgX1_10 rfl hT dX1_law_42 ?_
  refine fgX1_389 rfl (hT.sub 1 36 rfl) dX1_law_45 ?_
  refine J.nmq hw ?_
  clear hw
  intro o45 hw
  obtain ⟨b48_3, rfl, hw⟩ := hw
  obtain ⟨fs48, hk48, hn48, v48, hv48, hw⟩ := hw
  refine J.getfN (C := RX8) (T0 := TX8) (N := 1) 0 dX1_law_48 hn48 hk48 rfl in_X8 (by decide) nw1405 hv48 ?_
  obtain ⟨b51_4, rfl, hw⟩ := hw
  obtain ⟨fs51, hk51, hw⟩ := hw
  refine nrX1_378 rfl htr hk51 dX1_law_51 (by omega) (Nat.le_of_ble_eq_true rfl) hw ?_
  clear hw
  intro r51 hw
  exact J.iret rfl dX1_law_54 ⟨_, _, _, rfl, _, rfl, hw⟩
