theorem fgX6_87 {G : jG} {l : Launch} {M : jM} {d c n pc : Nat} {lv : List (Nat × Value)} {st : List Value} {sh : List jH} {V : Nat → Nat → Int32} {R : Nat → Nat → Option Nat} {post : Option Value → List jC → Prop} {xp : String → List jC → Prop} {t : Nat} (hM : M.1.cls = RX6) (hT : jReg shX6 sh t) (hd : decode M.2.1 pc = .ok (.getfield 87, 3)) (kk : J G l M d c n (pc + 3) lv (.int (V t 11) :: st) (mk sh V R) post xp) : J G l M d c n pc lv (.ref t :: st) (mk sh V R) post xp := JV.getf (C := RX6) (T0 := TX6) (N := 28) 11 hd hT.1 (hT.at 0 rfl) rfl in_X6 (by decide) (by rw [hM]; exact q2139) rfl rfl kk
theorem fpX6_87 {G : jG} {l : Launch} {M : jM} {d c n pc : Nat} {lv : List (Nat × Value)} {st : List Value} {sh : List jH} {V : Nat → Nat → Int32} {R : Nat → Nat → Option Nat} {post : Option Value → List jC → Prop} {xp : String → List jC → Prop} {t : Nat} (hM : M.1.cls = RX6) (hT : jReg shX6 sh t) {x9 : Int32} (hd : decode M.2.1 pc = .ok (.putfield 87, 3)) (kk : J G l M d c n (pc + 3) lv st (mk sh (vset V t 11 x9) R) post xp) : J G l M d c n pc lv (.int x9 :: .ref t :: st) (mk sh V R) post xp := JV.puti (C := RX6) (T0 := TX6) (N := 28) (o := 0) 11 hd hT.1 (hT.at 0 rfl) rfl in_X6 tyX6 tyX6_ok nmX6 (by decide) (by rw [hM]; exact q2139) rfl rfl (ji_put x9) rfl kk
theorem fgX6_90 {G : jG} {l : Launch} {M : jM} {d c n pc : Nat} {lv : List (Nat × Value)} {st : List Value} {sh : List jH} {V : Nat → Nat → Int32} {R : Nat → Nat → Option Nat} {post : Option Value → List jC → Prop} {xp : String → List jC → Prop} {t : Nat} (hM : M.1.cls = RX6) (hT : jReg shX6 sh t) (hd : decode M.2.1 pc = .ok (.getfield 90, 3)) (kk : J G l M d c n (pc + 3) lv (.int (V t 10) :: st) (mk sh V R) post xp) : J G l M d c n pc lv (.ref t :: st) (mk sh V R) post xp := JV.getf (C := RX6) (T0 := TX6) (N := 28) 10 hd hT.1 (hT.at 0 rfl) rfl in_X6 (by decide) (by rw [hM]; exact q2138) rfl rfl kk
theorem nrX6_100 {G : jG} {l : Launch} {M : jM} {d c n pc : Nat} {lv : List (Nat × Value)} {rest : List Value} {g : List jC} {post : Option Value → List jC → Prop} {xp : String → List jC → Prop} (hM : M.1.cls = RX6) (htr : l.stackTraces = false) {h : Nat} {a1 : Int32} {fs9 : List Value} (hk9 : g[h]? = some (.inr (17, fs9))) {Q : Int32 → Prop} (hd : decode M.2.1 pc = .ok (.invokevirtual 100, 3)) (hdd : 3 + 1 ≤ d) (hw8 : (rest.map fun v => v.category).sum ≤ 8) (hw : wJ5_charAt g h a1 Q) (kk : ∀ r, Q r → J G l M d c n (pc + 3) lv (.int r :: rest) g post xp) : J G l M d c n pc lv (.int a1 :: .ref h :: rest) g post xp :=
  J.callV (As := [.int a1]) (hcw := by rw [hM]; exact lw_V q2266 q1330 q1331 q156 q1332) (mJ5_charAt htr (Nat.le_refl _) hw) hd rfl ⟨17, _, _, hk9, rfl, rfl, fun _ => rfl⟩ ⟨rfl, by decide, by decide, by show _ = some 1; decide +kernel⟩ hw8 ⟨hdd, by decide⟩ jcc0 (fun r9 g9 h9 => by obtain ⟨rfl, r, rfl, h⟩ := h9; exact kk r h) jNo.x
theorem nrX6_106 {G : jG} {l : Launch} {M : jM} {d c n pc : Nat} {lv : List (Nat × Value)} {rest : List Value} {g : List jC} {post : Option Value → List jC → Prop} {xp : String → List jC → Prop} (hM : M.1.cls = RX6) (htr : l.stackTraces = false) {h : Nat} {fs9 : List Value} (hk9 : g[h]? = some (.inr (17, fs9))) {Q : Int32 → Prop} (hd : decode M.2.1 pc = .ok (.invokevirtual 106, 3)) (hdd : 1 + 1 ≤ d) (hw8 : (rest.map fun v => v.category).sum ≤ 8) (hw : wJ5_length g h Q) (kk : ∀ r, Q r → J G l M d c n (pc + 3) lv (.int r :: rest) g post xp) : J G l M d c n pc lv (.ref h :: rest) g post xp :=
  J.callV (As := []) (hcw := by rw [hM]; exact lw_V q2267 q1098 q1099 q156 q1100) (mJ5_length htr (Nat.le_refl _) hw) hd rfl ⟨17, _, _, hk9, rfl, rfl, fun _ => rfl⟩ ⟨rfl, by decide, by decide, by show _ = some 0; decide +kernel⟩ hw8 ⟨hdd, by decide⟩ jcc0 (fun r9 g9 h9 => by obtain ⟨rfl, r, rfl, h⟩ := h9; exact kk r h) jNo.x
abbrev MX6_has : jM := (yX6_has, cX6_has, 4, some .boolean, [])
theorem uX6_57 {G : jG} {l : Launch} {M : jM} {d c n pc : Nat} {lv : List (Nat × Value)} {rest : List Value} {post : Option Value → List jC → Prop} {xp : String → List jC → Prop} (hM : M.1.cls = RX6) (htr : l.stackTraces = false) {sh : List jH} {V : Nat → Nat → Int32} {R : Nat → Nat → Option Nat} {a1 : Int32} {a2 : Int32} {a3 : Int32} {Q : Int32 → Prop} (hd : decode M.2.1 pc = .ok (.invokestatic 57, 3)) (hdd : 0 + 1 ≤ d) (hw8 : (rest.map fun v => v.category).sum ≤ 8) (hw : wX6_isIn a1 a2 a3 Q) (kk : ∀ r, Q r → J G l M d c n (pc + 3) lv (.int r :: rest) (mk sh V R) post xp) : J G l M d c n pc lv (.int a3 :: .int a2 :: .int a1 :: rest) (mk sh V R) post xp := by
  exact J.callS (As := [.int a1, .int a2, .int a3]) (hcw := by rw [hM]; exact lw_S q2226 q2227 q152 q2228) (mX6_isIn htr hw) hd rfl ⟨by decide, by decide, by show _ = some 3; decide +kernel⟩ hw8 ⟨hdd, by decide⟩ jcc0 (fun r9 g9 h9 => by obtain ⟨rfl, r, rfl, h⟩ := h9; exact kk r h) jNo.x
theorem uX6_93 {G : jG} {l : Launch} {M : jM} {d c n pc : Nat} {lv : List (Nat × Value)} {rest : List Value} {post : Option Value → List jC → Prop} {xp : String → List jC → Prop} (hM : M.1.cls = RX6) (htr : l.stackTraces = false) {sh : List jH} {V : Nat → Nat → Int32} {R : Nat → Nat → Option Nat} {t : Nat} (hT : jReg shX6 sh t) {a1 : Int32} {Q : Int32 → Prop} (hd : decode M.2.1 pc = .ok (.invokevirtual 93, 3)) (hdd : 0 + 1 ≤ d) (hw8 : (rest.map fun v => v.category).sum ≤ 8) (hw : wX6_letter t V a1 Q) (kk : ∀ r, Q r → J G l M d c n (pc + 3) lv (.int r :: rest) (mk sh V R) post xp) : J G l M d c n pc lv (.int a1 :: .ref t :: rest) (mk sh V R) post xp := by
  exact J.callV (As := [.int a1]) (hcw := by rw [hM]; exact lw_V q2249 q2251 qs73 q152 q2252) (mX6_letter htr hT hw) hd rfl ⟨5, _, _, mk_at (hT.at 0 rfl), rfl, rfl, fun _ => rfl⟩ ⟨rfl, by decide, by decide, by show _ = some 1; decide +kernel⟩ hw8 ⟨hdd, by decide⟩ jcc0 (fun r9 g9 h9 => by obtain ⟨rfl, r, rfl, h⟩ := h9; exact kk r h) jNo.x
theorem uX6_97 {G : jG} {l : Launch} {M : jM} {d c n pc : Nat} {lv : List (Nat × Value)} {rest : List Value} {post : Option Value → List jC → Prop} {xp : String → List jC → Prop} (hM : M.1.cls = RX6) (htr : l.stackTraces = false) {sh : List jH} {V : Nat → Nat → Int32} {R : Nat → Nat → Option Nat} {t : Nat} (hT : jReg shX6 sh t) {Q : (Nat → Nat → Int32) → Prop} (hd : decode M.2.1 pc = .ok (.invokevirtual 97, 3)) (hdd : 1 + 1 ≤ d) (hw8 : (rest.map fun v => v.category).sum ≤ 8) (hw : wX6_skip t V Q) (kk : ∀ V', Q V' → J G l M d c n (pc + 3) lv rest (mk sh V' R) post xp) : J G l M d c n pc lv (.ref t :: rest) (mk sh V R) post xp := by
  exact J.callV (As := []) (hcw := by rw [hM]; exact lw_V q2245 q2247 qs72 q152 q2248) (mX6_skip htr hT hw) hd rfl ⟨5, _, _, mk_at (hT.at 0 rfl), rfl, rfl, fun _ => rfl⟩ ⟨rfl, by decide, by decide, by show _ = some 0; decide +kernel⟩ hw8 ⟨hdd, by decide⟩ jcc0 (fun r9 g9 h9 => by obtain ⟨V9, rfl, rfl, h⟩ := h9; exact kk V9 h) jNo.x
-- VisitingHoursModel.has(Ljava/lang/String;)Z
def wX6_has_84 (t : Nat) (sh : List jH) (R : Nat → Nat → Option Nat) (a1 : Nat) (Q : Int32 → (Nat → Nat → Int32) → Prop) : Nat → (Nat → Nat → Int32) → Int32 → Int32 → Prop
  | 0, _, _, _ => False
  | f + 1, V, x2, x3 =>
    (∃ fs86 : List Value, (mk sh V R)[a1]? = some (.inr (17, fs86)) ∧ wJ5_length (mk sh V R) a1 (fun r86 => ((r86 ≤ x3 → Q (1 : Int32) (vset V t 11 x2)) ∧ (¬ r86 ≤ x3 → (wX6_letter t V ((V t 11) + x3) (fun r99 => (∃ fs104 : List Value, (mk sh V R)[a1]? = some (.inr (17, fs104)) ∧ wJ5_charAt (mk sh V R) a1 x3 (fun r104 => ((r99 = r104 → (∀ y112 : Int32, y112 = x3 + (1 : Int32) → wX6_has_84 t sh R a1 Q f V x2 y112)) ∧ (¬ r99 = r104 → Q (0 : Int32) V))))))))))
theorem rX6_has_84 {G : jG} {l : Launch} {d : Nat} {c n : Nat} (htr : l.stackTraces = false) (hdd : 4 ≤ d) {sh : List jH} {R : Nat → Nat → Option Nat} {t : Nat} (hT : jReg shX6 sh t) {a1 : Nat} {Q : Int32 → (Nat → Nat → Int32) → Prop} : ∀ (f : Nat) (V : Nat → Nat → Int32) (x2 : Int32) (x3 : Int32), wX6_has_84 t sh R a1 Q f V x2 x3 → J G l MX6_has d c n 84 [(0, .ref t), (1, .ref a1), (2, .int x2), (3, .int x3)] [] (mk sh V R) (jWr sh R Q) jNo := by
  intro f
  induction f with
  | zero =>
    intro V x2 x3 hw
    rw [wX6_has_84] at hw
    exact hw.elim
  | succ f ih =>
    intro V x2 x3 hw
    rw [wX6_has_84] at hw
    refine J.iload_n 3 dX6_has_84 rfl ?_
    refine J.aload_n 1 dX6_has_85 rfl ?_
    obtain ⟨fs86, hk86, hw⟩ := hw
    refine nrX6_106 rfl htr hk86 dX6_has_86 (by omega) (Nat.le_of_ble_eq_true rfl) hw ?_
    clear hw
    intro r86 hw
    refine J.icmp_ge 118 dX6_has_89 (by decide) ⟨fun c89 => ?_, fun c89 => ?_⟩
    · obtain ⟨hw, -⟩ := hw
      specialize hw c89
      refine J.aload_n 0 dX6_has_118 rfl ?_
      refine J.iload_n 2 dX6_has_119 rfl ?_
      refine fpX6_87 rfl hT dX6_has_120 ?_
      refine J.iconst (v := (1 : Int32)) dX6_has_123 (by decide) ?_
      exact J.zret rfl rfl dX6_has_124 ⟨_, rfl, _, rfl, hw⟩
    · obtain ⟨-, hw⟩ := hw
      specialize hw c89
      refine J.aload_n 0 dX6_has_92 rfl ?_
      refine J.aload_n 0 dX6_has_93 rfl ?_
      refine fgX6_87 rfl hT dX6_has_94 ?_
      refine J.iload_n 3 dX6_has_97 rfl ?_
      refine J.iadd dX6_has_98 ?_
      refine uX6_93 rfl htr hT dX6_has_99 (by omega) (Nat.le_of_ble_eq_true rfl) hw ?_
      clear hw
      intro r99 hw
      refine J.aload_n 1 dX6_has_102 rfl ?_
      refine J.iload_n 3 dX6_has_103 rfl ?_
      obtain ⟨fs104, hk104, hw⟩ := hw
      refine nrX6_100 rfl htr hk104 dX6_has_104 (by omega) (Nat.le_of_ble_eq_true rfl) hw ?_
      clear hw
      intro r104 hw
      refine J.icmp_eq 112 dX6_has_107 (by decide) ⟨fun c107 => ?_, fun c107 => ?_⟩
      · obtain ⟨hw, -⟩ := hw
        specialize hw c107
        refine J.iincN 3 (K := (1 : Int32)) (lv' := fun y112 => [(3, .int y112), (0, .ref t), (1, .ref a1), (2, .int x2)]) dX6_has_112 rfl (by decide) (by decide) (fun _ => rfl) hw (fun y112 hw => ?_)
        refine J.goto 84 dX6_has_115 (by decide) ?_
        exact J.pick [1, 2, 3, 0] rfl (ih _ _ _ hw)
      · obtain ⟨-, hw⟩ := hw
        specialize hw c107
        refine J.iconst (v := (0 : Int32)) dX6_has_110 (by decide) ?_
        exact J.zret rfl rfl dX6_has_111 ⟨_, rfl, _, rfl, hw⟩
def wX6_has_67 (t : Nat) (sh : List jH) (R : Nat → Nat → Option Nat) (a1 : Nat) (Q : Int32 → (Nat → Nat → Int32) → Prop) (V : Nat → Nat → Int32) (x2 : Int32) : Prop :=
  (∃ fs74 : List Value, (mk sh V R)[a1]? = some (.inr (17, fs74)) ∧ wJ5_length (mk sh V R) a1 (fun r74 => (((x2 - (V t 11)) = r74 → (∃ f9, wX6_has_84 t sh R a1 Q f9 V x2 (0 : Int32))) ∧ (¬ (x2 - (V t 11)) = r74 → Q (0 : Int32) V))))
theorem rX6_has_67 {G : jG} {l : Launch} {d : Nat} {c n : Nat} (htr : l.stackTraces = false) (hdd : 4 ≤ d) {sh : List jH} {R : Nat → Nat → Option Nat} {t : Nat} (hT : jReg shX6 sh t) {a1 : Nat} {Q : Int32 → (Nat → Nat → Int32) → Prop} {V : Nat → Nat → Int32} {x2 : Int32} (hw : wX6_has_67 t sh R a1 Q V x2) : J G l MX6_has d c n 67 [(0, .ref t), (1, .ref a1), (2, .int x2)] [] (mk sh V R) (jWr sh R Q) jNo := by
  unfold wX6_has_67 at hw
  refine J.iload_n 2 dX6_has_67 rfl ?_
  refine J.aload_n 0 dX6_has_68 rfl ?_
  refine fgX6_87 rfl hT dX6_has_69 ?_
  refine J.isub dX6_has_72 ?_
  refine J.aload_n 1 dX6_has_73 rfl ?_
  obtain ⟨fs74, hk74, hw⟩ := hw
  refine nrX6_106 rfl htr hk74 dX6_has_74 (by omega) (Nat.le_of_ble_eq_true rfl) hw ?_
  clear hw
  intro r74 hw
  refine J.icmp_eq 82 dX6_has_77 (by decide) ⟨fun c77 => ?_, fun c77 => ?_⟩
  · obtain ⟨hw, -⟩ := hw
    specialize hw c77
    refine J.iconst (v := (0 : Int32)) dX6_has_82 (by decide) ?_
    refine J.istore_n (lv' := [(3, .int (0 : Int32)), (0, .ref t), (1, .ref a1), (2, .int x2)]) dX6_has_83 (by decide) rfl ?_
    obtain ⟨f9, hw⟩ := hw
    exact J.pick [1, 2, 3, 0] rfl (rX6_has_84 htr hdd hT f9 _ _ _ hw)
  · obtain ⟨-, hw⟩ := hw
    specialize hw c77
    refine J.iconst (v := (0 : Int32)) dX6_has_80 (by decide) ?_
    exact J.zret rfl rfl dX6_has_81 ⟨_, rfl, _, rfl, hw⟩
def wX6_has_38 (t : Nat) (sh : List jH) (R : Nat → Nat → Option Nat) (a1 : Nat) (Q : Int32 → (Nat → Nat → Int32) → Prop) : Nat → (Nat → Nat → Int32) → Int32 → Prop
  | 0, _, _ => False
  | f + 1, V, x2 =>
    (((V t 10) ≤ x2 → wX6_has_67 t sh R a1 Q V x2) ∧ (¬ (V t 10) ≤ x2 → (wX6_letter t V x2 (fun r48 => (wX6_isIn r48 (97 : Int32) (122 : Int32) (fun r55 => ((r55 = 0 → wX6_has_67 t sh R a1 Q V x2) ∧ (¬ r55 = 0 → (∀ y61 : Int32, y61 = x2 + (1 : Int32) → wX6_has_38 t sh R a1 Q f V y61)))))))))
theorem rX6_has_38 {G : jG} {l : Launch} {d : Nat} {c n : Nat} (htr : l.stackTraces = false) (hdd : 4 ≤ d) {sh : List jH} {R : Nat → Nat → Option Nat} {t : Nat} (hT : jReg shX6 sh t) {a1 : Nat} {Q : Int32 → (Nat → Nat → Int32) → Prop} : ∀ (f : Nat) (V : Nat → Nat → Int32) (x2 : Int32), wX6_has_38 t sh R a1 Q f V x2 → J G l MX6_has d c n 38 [(0, .ref t), (1, .ref a1), (2, .int x2)] [] (mk sh V R) (jWr sh R Q) jNo := by
  intro f
  induction f with
  | zero =>
    intro V x2 hw
    rw [wX6_has_38] at hw
    exact hw.elim
  | succ f ih =>
    intro V x2 hw
    rw [wX6_has_38] at hw
    refine J.iload_n 2 dX6_has_38 rfl ?_
    refine J.aload_n 0 dX6_has_39 rfl ?_
    refine fgX6_90 rfl hT dX6_has_40 ?_
    refine J.icmp_ge 67 dX6_has_43 (by decide) ⟨fun c43 => ?_, fun c43 => ?_⟩
    · obtain ⟨hw, -⟩ := hw
      specialize hw c43
      exact (rX6_has_67 htr hdd hT hw)
    · obtain ⟨-, hw⟩ := hw
      specialize hw c43
      refine J.aload_n 0 dX6_has_46 rfl ?_
      refine J.iload_n 2 dX6_has_47 rfl ?_
      refine uX6_93 rfl htr hT dX6_has_48 (by omega) (Nat.le_of_ble_eq_true rfl) hw ?_
      clear hw
      intro r48 hw
      refine J.bipush (v := (97 : Int32)) dX6_has_51 (by decide) ?_
      refine J.bipush (v := (122 : Int32)) dX6_has_53 (by decide) ?_
      refine uX6_57 rfl htr dX6_has_55 (by omega) (Nat.le_of_ble_eq_true rfl) hw ?_
      clear hw
      intro r55 hw
      refine J.if_eq 67 dX6_has_58 (by decide) ⟨fun c58 => ?_, fun c58 => ?_⟩
      · obtain ⟨hw, -⟩ := hw
        specialize hw c58
        exact (rX6_has_67 htr hdd hT hw)
      · obtain ⟨-, hw⟩ := hw
        specialize hw c58
        refine J.iincN 2 (K := (1 : Int32)) (lv' := fun y61 => [(2, .int y61), (0, .ref t), (1, .ref a1)]) dX6_has_61 rfl (by decide) (by decide) (fun _ => rfl) hw (fun y61 hw => ?_)
        refine J.goto 38 dX6_has_64 (by decide) ?_
        exact J.pick [1, 2, 0] rfl (ih _ _ hw)
def wX6_has (t : Nat) (sh : List jH) (R : Nat → Nat → Option Nat) (V : Nat → Nat → Int32) (a1 : Nat) (Q : Int32 → (Nat → Nat → Int32) → Prop) : Prop :=
  (wX6_skip t V (fun V1 => (((V1 t 10) ≤ (V1 t 11) → Q (0 : Int32) V1) ∧ (¬ (V1 t 10) ≤ (V1 t 11) → (wX6_letter t V1 (V1 t 11) (fun r20 => (∃ fs25 : List Value, (mk sh V1 R)[a1]? = some (.inr (17, fs25)) ∧ wJ5_charAt (mk sh V1 R) a1 (0 : Int32) (fun r25 => ((r20 = r25 → (∀ y37 : Int32, y37 = (V1 t 11) → (∃ f9, wX6_has_38 t sh R a1 Q f9 V1 y37))) ∧ (¬ r20 = r25 → Q (0 : Int32) V1))))))))))
theorem mX6_has {G : jG} {l : Launch} {d : Nat} (htr : l.stackTraces = false) (hdd : 4 ≤ d) {sh : List jH} {R : Nat → Nat → Option Nat} {V : Nat → Nat → Int32} {t : Nat} (hT : jReg shX6 sh t) {a1 : Nat} {Q : Int32 → (Nat → Nat → Int32) → Prop} (hw : wX6_has t sh R V a1 Q) : JM G l MX6_has d 0 0 [.ref t, .ref a1] (mk sh V R) (jWr sh R Q) jNo := by
  refine JM.intro (by decide) rfl htr (Nat.le_of_ble_eq_true rfl) ?_
  show J G l MX6_has d 0 0 0 [(0, .ref t), (1, .ref a1)] [] (mk sh V R) _ _
  unfold wX6_has at hw
  refine J.aload_n 0 dX6_has_0 rfl ?_
  refine uX6_97 rfl htr hT dX6_has_1 (by omega) (Nat.le_of_ble_eq_true rfl) hw ?_
  clear hw
  intro V1 hw
  refine J.aload_n 0 dX6_has_4 rfl ?_
  refine fgX6_87 rfl hT dX6_has_5 ?_
  refine J.aload_n 0 dX6_has_8 rfl ?_
  refine fgX6_90 rfl hT dX6_has_9 ?_
  refine J.icmp_ge 31 dX6_has_12 (by decide) ⟨fun c12 => ?_, fun c12 => ?_⟩
  · obtain ⟨hw, -⟩ := hw
    specialize hw c12
    refine J.iconst (v := (0 : Int32)) dX6_has_31 (by decide) ?_
    exact J.zret rfl rfl dX6_has_32 ⟨_, rfl, _, rfl, hw⟩
  · obtain ⟨-, hw⟩ := hw
    specialize hw c12
    refine J.aload_n 0 dX6_has_15 rfl ?_
    refine J.aload_n 0 dX6_has_16 rfl ?_
    refine fgX6_87 rfl hT dX6_has_17 ?_
    refine uX6_93 rfl htr hT dX6_has_20 (by omega) (Nat.le_of_ble_eq_true rfl) hw ?_
    clear hw
    intro r20 hw
    refine J.aload_n 1 dX6_has_23 rfl ?_
    refine J.iconst (v := (0 : Int32)) dX6_has_24 (by decide) ?_
    obtain ⟨fs25, hk25, hw⟩ := hw
    refine nrX6_100 rfl htr hk25 dX6_has_25 (by omega) (Nat.le_of_ble_eq_true rfl) hw ?_
    clear hw
    intro r25 hw
    refine J.icmp_eq 33 dX6_has_28 (by decide) ⟨fun c28 => ?_, fun c28 => ?_⟩
    · obtain ⟨hw, -⟩ := hw
      specialize hw c28
      refine J.aload_n 0 dX6_has_33 rfl ?_
      refine fgX6_87 rfl hT dX6_has_34 ?_
      refine J.nm hw (fun y37 hw => ?_)
      refine J.istore_n (lv' := [(2, .int y37), (0, .ref t), (1, .ref a1)]) dX6_has_37 (by decide) rfl ?_
      obtain ⟨f9, hw⟩ := hw
      exact J.pick [1, 2, 0] rfl (rX6_has_38 htr hdd hT f9 _ _ hw)
    · obtain ⟨-, hw⟩ := hw
      specialize hw c28
      refine J.iconst (v := (0 : Int32)) dX6_has_31 (by decide) ?_
      exact J.zret rfl rfl dX6_has_32 ⟨_, rfl, _, rfl, hw⟩
theorem fgX6_25 {G : jG} {l : Launch} {M : jM} {d c n pc : Nat} {lv : List (Nat × Value)} {st : List Value} {sh : List jH} {V : Nat → Nat → Int32} {R : Nat → Nat → Option Nat} {post : Option Value → List jC → Prop} {xp : String → List jC → Prop} {t : Nat} (hM : M.1.cls = RX6) (hT : jReg shX6 sh t) (hd : decode M.2.1 pc = .ok (.getfield 25, 3)) (kk : J G l M d c n (pc + 3) lv (.int (V t 12) :: st) (mk sh V R) post xp) : J G l M d c n pc lv (.ref t :: st) (mk sh V R) post xp := JV.getf (C := RX6) (T0 := TX6) (N := 28) 12 hd hT.1 (hT.at 0 rfl) rfl in_X6 (by decide) (by rw [hM]; exact q2140) rfl rfl kk
abbrev MX6_atom : jM := (yX6_atom, cX6_atom, 4, some .boolean, [])
abbrev MX6_every : jM := (yX6_every, cX6_every, 3, some .boolean, [])
theorem uX6_117 {G : jG} {l : Launch} {M : jM} {d c n pc : Nat} {lv : List (Nat × Value)} {rest : List Value} {post : Option Value → List jC → Prop} {xp : String → List jC → Prop} (hM : M.1.cls = RX6) (htr : l.stackTraces = false) {sh : List jH} {V : Nat → Nat → Int32} {R : Nat → Nat → Option Nat} {t : Nat} (hT : jReg shX6 sh t) {a1 : Nat} {Q : Int32 → (Nat → Nat → Int32) → Prop} (hd : decode M.2.1 pc = .ok (.invokevirtual 117, 3)) (hdd : 4 + 1 ≤ d) (hw8 : (rest.map fun v => v.category).sum ≤ 8) (hw : wX6_has t sh R V a1 Q) (kk : ∀ r V', Q r V' → J G l M d c n (pc + 3) lv (.int r :: rest) (mk sh V' R) post xp) : J G l M d c n pc lv (.ref a1 :: .ref t :: rest) (mk sh V R) post xp := by
  exact J.callV (As := [.ref a1]) (hcw := by rw [hM]; exact lw_V q2262 q2264 qs76 q152 q2265) (mX6_has htr (Nat.le_refl _) hT hw) hd rfl ⟨5, _, _, mk_at (hT.at 0 rfl), rfl, rfl, fun _ => rfl⟩ ⟨rfl, by decide, by decide, by show _ = some 1; decide +kernel⟩ hw8 ⟨hdd, by decide⟩ jcc0 (fun r9 g9 h9 => by obtain ⟨V9, rfl, r, rfl, h⟩ := h9; exact kk r V9 h) jNo.x
theorem uX6_239_X6_every {G : jG} {l : Launch} {M : jM} {d c n pc : Nat} {lv : List (Nat × Value)} {rest : List Value} {post : Option Value → List jC → Prop} {xp : String → List jC → Prop} (hM : M.1.cls = RX6) (htr : l.stackTraces = false) {sh : List jH} {V : Nat → Nat → Int32} {R : Nat → Nat → Option Nat} {t : Nat} (hT : jReg shX6 sh t) {REC : (Nat → Nat → Int32) → (Int32 → (Nat → Nat → Int32) → Prop) → Prop} {dr : Nat} (hdr : dr + 1 ≤ d) (hREC : ∀ {V : Nat → Nat → Int32} {Q : Int32 → (Nat → Nat → Int32) → Prop}, REC V Q → JM G l MX6_atom dr 0 0 [.ref t] (mk sh V R) (jWr sh R Q) jNo) {Q : Int32 → (Nat → Nat → Int32) → Prop} (hd : decode M.2.1 pc = .ok (.invokevirtual 239, 3))  (hw8 : (rest.map fun v => v.category).sum ≤ 8) (hw : REC V Q) (kk : ∀ r V', Q r V' → J G l M d c n (pc + 3) lv (.int r :: rest) (mk sh V' R) post xp) : J G l M d c n pc lv (.ref t :: rest) (mk sh V R) post xp := by
  exact J.callV (As := []) (hcw := by rw [hM]; exact lw_V q2287 q2289 qs81 q152 q2290) (hREC hw) hd rfl ⟨5, _, _, mk_at (hT.at 0 rfl), rfl, rfl, fun _ => rfl⟩ ⟨rfl, by decide, by decide, by show _ = some 0; decide +kernel⟩ hw8 ⟨hdr, by decide⟩ jcc0 (fun r9 g9 h9 => by obtain ⟨V9, rfl, r, rfl, h⟩ := h9; exact kk r V9 h) jNo.x
-- VisitingHoursModel.every()Z
def wX6_every_5 (t : Nat) (sh : List jH) (R : Nat → Nat → Option Nat) (REC : (Nat → Nat → Int32) → (Int32 → (Nat → Nat → Int32) → Prop) → Prop) (Q : Int32 → (Nat → Nat → Int32) → Prop) : Nat → (Nat → Nat → Int32) → Int32 → Prop
  | 0, _, _ => False
  | f + 1, V, x1 =>
    ((¬ (V t 12) = (-1 : Int32) → (jz x1 ∧ Q x1 V)) ∧ ((V t 12) = (-1 : Int32) → (wX6_has t sh R V 34 (fun r16 V16 => ((r16 = 0 → (jz x1 ∧ Q x1 V16)) ∧ (¬ r16 = 0 → (REC V16 (fun r23 V23 => ((x1 = 0 → wX6_every_5 t sh R REC Q f V23 (0 : Int32)) ∧ (¬ x1 = 0 → ((r23 = 0 → wX6_every_5 t sh R REC Q f V23 (0 : Int32)) ∧ (¬ r23 = 0 → wX6_every_5 t sh R REC Q f V23 (1 : Int32)))))))))))))
theorem rX6_every_5 {G : jG} {l : Launch} {d : Nat} {c n : Nat} (htr : l.stackTraces = false) (hdd : 5 ≤ d) {sh : List jH} {R : Nat → Nat → Option Nat} {t : Nat} (hT : jReg shX6 sh t) {REC : (Nat → Nat → Int32) → (Int32 → (Nat → Nat → Int32) → Prop) → Prop} {dr : Nat} (hdr : dr + 1 ≤ d) (hREC : ∀ {V : Nat → Nat → Int32} {Q : Int32 → (Nat → Nat → Int32) → Prop}, REC V Q → JM G l MX6_atom dr 0 0 [.ref t] (mk sh V R) (jWr sh R Q) jNo) {Q : Int32 → (Nat → Nat → Int32) → Prop} : ∀ (f : Nat) (V : Nat → Nat → Int32) (x1 : Int32), wX6_every_5 t sh R REC Q f V x1 → J G l MX6_every d c n 5 [(0, .ref t), (1, .int x1)] [] (mk sh V R) (jWr sh R Q) jNo := by
  intro f
  induction f with
  | zero =>
    intro V x1 hw
    rw [wX6_every_5] at hw
    exact hw.elim
  | succ f ih =>
    intro V x1 hw
    rw [wX6_every_5] at hw
    refine J.aload_n 0 dX6_every_5 rfl ?_
    refine fgX6_25 rfl hT dX6_every_6 ?_
    refine J.iconst (v := (-1 : Int32)) dX6_every_9 (by decide) ?_
    refine J.icmp_ne 44 dX6_every_10 (by decide) ⟨fun c10 => ?_, fun c10 => ?_⟩
    · obtain ⟨hw, -⟩ := hw
      specialize hw c10
      refine J.iload_n 1 dX6_every_44 rfl ?_
      exact J.zret rfl (jz_nar hw.1) dX6_every_45 ⟨_, rfl, _, rfl, hw.2⟩
    · obtain ⟨-, hw⟩ := hw
      specialize hw c10
      refine J.aload_n 0 dX6_every_13 rfl ?_
      refine J.ldcS dX6_every_14 jl_2317 (by decide) ?_
      refine uX6_117 rfl htr hT dX6_every_16 (by omega) (Nat.le_of_ble_eq_true rfl) hw ?_
      clear hw
      intro r16 V16 hw
      refine J.if_eq 44 dX6_every_19 (by decide) ⟨fun c19 => ?_, fun c19 => ?_⟩
      · obtain ⟨hw, -⟩ := hw
        specialize hw c19
        refine J.iload_n 1 dX6_every_44 rfl ?_
        exact J.zret rfl (jz_nar hw.1) dX6_every_45 ⟨_, rfl, _, rfl, hw.2⟩
      · obtain ⟨-, hw⟩ := hw
        specialize hw c19
        refine J.aload_n 0 dX6_every_22 rfl ?_
        refine uX6_239_X6_every rfl htr hT (by omega) hREC dX6_every_23 (Nat.le_of_ble_eq_true rfl) hw ?_
        clear hw
        intro r23 V23 hw
        refine J.istore_n (lv' := [(2, .int r23), (0, .ref t), (1, .int x1)]) dX6_every_26 (by decide) rfl ?_
        refine J.iload_n 2 dX6_every_27 rfl ?_
        refine J.if_eq 39 dX6_every_28 (by decide) ⟨fun c28 => ?_, fun c28 => ?_⟩
        · obtain ⟨hw, -⟩ := hw
          specialize hw c28
          refine J.iconst (v := (0 : Int32)) dX6_every_39 (by decide) ?_
          refine J.istore_n (lv' := [(1, .int (0 : Int32)), (2, .int r23), (0, .ref t)]) dX6_every_40 (by decide) rfl ?_
          refine J.goto 5 dX6_every_41 (by decide) ?_
          exact J.pick [2, 0] rfl (ih _ _ hw)
        · obtain ⟨-, hw⟩ := hw
          specialize hw c28
          refine J.iload_n 0 dX6_every_31 rfl ?_
          refine J.if_eq 39 dX6_every_32 (by decide) ⟨fun c32 => ?_, fun c32 => ?_⟩
          · obtain ⟨hw, -⟩ := hw
            specialize hw c32
            refine J.iconst (v := (0 : Int32)) dX6_every_39 (by decide) ?_
            refine J.istore_n (lv' := [(1, .int (0 : Int32)), (2, .int r23), (0, .ref t)]) dX6_every_40 (by decide) rfl ?_
            refine J.goto 5 dX6_every_41 (by decide) ?_
            exact J.pick [2, 0] rfl (ih _ _ hw)
          · obtain ⟨-, hw⟩ := hw
            specialize hw c32
            refine J.iconst (v := (1 : Int32)) dX6_every_35 (by decide) ?_
            refine J.goto 40 dX6_every_36 (by decide) ?_
            refine J.istore_n (lv' := [(1, .int (1 : Int32)), (2, .int r23), (0, .ref t)]) dX6_every_40 (by decide) rfl ?_
            refine J.goto 5 dX6_every_41 (by decide) ?_
            exact J.pick [2, 0] rfl (ih _ _ hw)
def wX6_every (t : Nat) (sh : List jH) (R : Nat → Nat → Option Nat) (REC : (Nat → Nat → Int32) → (Int32 → (Nat → Nat → Int32) → Prop) → Prop) (V : Nat → Nat → Int32) (Q : Int32 → (Nat → Nat → Int32) → Prop) : Prop :=
  (REC V (fun r1 V1 => (∃ f9, wX6_every_5 t sh R REC Q f9 V1 r1)))
theorem mX6_every {G : jG} {l : Launch} {d : Nat} (htr : l.stackTraces = false) (hdd : 5 ≤ d) {sh : List jH} {R : Nat → Nat → Option Nat} {V : Nat → Nat → Int32} {t : Nat} (hT : jReg shX6 sh t) {REC : (Nat → Nat → Int32) → (Int32 → (Nat → Nat → Int32) → Prop) → Prop} {dr : Nat} (hdr : dr + 1 ≤ d) (hREC : ∀ {V : Nat → Nat → Int32} {Q : Int32 → (Nat → Nat → Int32) → Prop}, REC V Q → JM G l MX6_atom dr 0 0 [.ref t] (mk sh V R) (jWr sh R Q) jNo) {Q : Int32 → (Nat → Nat → Int32) → Prop} (hw : wX6_every t sh R REC V Q) : JM G l MX6_every d 0 0 [.ref t] (mk sh V R) (jWr sh R Q) jNo := by
  refine JM.intro (by decide) rfl htr (Nat.le_of_ble_eq_true rfl) ?_
  show J G l MX6_every d 0 0 0 [(0, .ref t)] [] (mk sh V R) _ _
  unfold wX6_every at hw
  refine J.aload_n 0 dX6_every_0 rfl ?_
  refine uX6_239_X6_every rfl htr hT (by omega) hREC dX6_every_1 (Nat.le_of_ble_eq_true rfl) hw ?_
  clear hw
  intro r1 V1 hw
  refine J.istore_n (lv' := [(1, .int r1), (0, .ref t)]) dX6_every_4 (by decide) rfl ?_
  obtain ⟨f9, hw⟩ := hw
  exact J.pick [1, 0] rfl (rX6_every_5 htr hdd hT hdr hREC f9 _ _ hw)
abbrev MX6_some : jM := (yX6_some, cX6_some, 3, some .boolean, [])
theorem uX6_247_X6_some {G : jG} {l : Launch} {M : jM} {d c n pc : Nat} {lv : List (Nat × Value)} {rest : List Value} {post : Option Value → List jC → Prop} {xp : String → List jC → Prop} (hM : M.1.cls = RX6) (htr : l.stackTraces = false) {sh : List jH} {V : Nat → Nat → Int32} {R : Nat → Nat → Option Nat} {t : Nat} (hT : jReg shX6 sh t) {REC : (Nat → Nat → Int32) → (Int32 → (Nat → Nat → Int32) → Prop) → Prop} {dr : Nat} (hdr : dr + 2 ≤ d) (hREC : ∀ {V : Nat → Nat → Int32} {Q : Int32 → (Nat → Nat → Int32) → Prop}, REC V Q → JM G l MX6_atom dr 0 0 [.ref t] (mk sh V R) (jWr sh R Q) jNo) {Q : Int32 → (Nat → Nat → Int32) → Prop} (hd : decode M.2.1 pc = .ok (.invokevirtual 247, 3)) (hdd : 5 + 1 ≤ d) (hw8 : (rest.map fun v => v.category).sum ≤ 8) (hw : wX6_every t sh R REC V Q) (kk : ∀ r V', Q r V' → J G l M d c n (pc + 3) lv (.int r :: rest) (mk sh V' R) post xp) : J G l M d c n pc lv (.ref t :: rest) (mk sh V R) post xp := by
  exact J.callV (As := []) (hcw := by rw [hM]; exact lw_V q2283 q2285 qs80 q152 q2286) (mX6_every (d := d - 1) htr (by omega) hT (dr := dr) (by omega) hREC hw) hd rfl ⟨5, _, _, mk_at (hT.at 0 rfl), rfl, rfl, fun _ => rfl⟩ ⟨rfl, by decide, by decide, by show _ = some 0; decide +kernel⟩ hw8 ⟨by omega, by decide⟩ jcc0 (fun r9 g9 h9 => by obtain ⟨V9, rfl, r, rfl, h⟩ := h9; exact kk r V9 h) jNo.x
-- VisitingHoursModel.some()Z
def wX6_some_5 (t : Nat) (sh : List jH) (R : Nat → Nat → Option Nat) (REC : (Nat → Nat → Int32) → (Int32 → (Nat → Nat → Int32) → Prop) → Prop) (Q : Int32 → (Nat → Nat → Int32) → Prop) : Nat → (Nat → Nat → Int32) → Int32 → Prop
  | 0, _, _ => False
  | f + 1, V, x1 =>
    ((¬ (V t 12) = (-1 : Int32) → (jz x1 ∧ Q x1 V)) ∧ ((V t 12) = (-1 : Int32) → (wX6_has t sh R V 36 (fun r16 V16 => ((r16 = 0 → (jz x1 ∧ Q x1 V16)) ∧ (¬ r16 = 0 → (wX6_every t sh R REC V16 (fun r23 V23 => ((¬ x1 = 0 → wX6_some_5 t sh R REC Q f V23 (1 : Int32)) ∧ (x1 = 0 → ((r23 = 0 → wX6_some_5 t sh R REC Q f V23 (0 : Int32)) ∧ (¬ r23 = 0 → wX6_some_5 t sh R REC Q f V23 (1 : Int32)))))))))))))
theorem rX6_some_5 {G : jG} {l : Launch} {d : Nat} {c n : Nat} (htr : l.stackTraces = false) (hdd : 6 ≤ d) {sh : List jH} {R : Nat → Nat → Option Nat} {t : Nat} (hT : jReg shX6 sh t) {REC : (Nat → Nat → Int32) → (Int32 → (Nat → Nat → Int32) → Prop) → Prop} {dr : Nat} (hdr : dr + 2 ≤ d) (hREC : ∀ {V : Nat → Nat → Int32} {Q : Int32 → (Nat → Nat → Int32) → Prop}, REC V Q → JM G l MX6_atom dr 0 0 [.ref t] (mk sh V R) (jWr sh R Q) jNo) {Q : Int32 → (Nat → Nat → Int32) → Prop} : ∀ (f : Nat) (V : Nat → Nat → Int32) (x1 : Int32), wX6_some_5 t sh R REC Q f V x1 → J G l MX6_some d c n 5 [(0, .ref t), (1, .int x1)] [] (mk sh V R) (jWr sh R Q) jNo := by
  intro f
  induction f with
  | zero =>
    intro V x1 hw
    rw [wX6_some_5] at hw
    exact hw.elim
  | succ f ih =>
    intro V x1 hw
    rw [wX6_some_5] at hw
    refine J.aload_n 0 dX6_some_5 rfl ?_
    refine fgX6_25 rfl hT dX6_some_6 ?_
    refine J.iconst (v := (-1 : Int32)) dX6_some_9 (by decide) ?_
    refine J.icmp_ne 44 dX6_some_10 (by decide) ⟨fun c10 => ?_, fun c10 => ?_⟩
    · obtain ⟨hw, -⟩ := hw
      specialize hw c10
      refine J.iload_n 1 dX6_some_44 rfl ?_
      exact J.zret rfl (jz_nar hw.1) dX6_some_45 ⟨_, rfl, _, rfl, hw.2⟩
    · obtain ⟨-, hw⟩ := hw
      specialize hw c10
      refine J.aload_n 0 dX6_some_13 rfl ?_
      refine J.ldcS dX6_some_14 jl_2318 (by decide) ?_
      refine uX6_117 rfl htr hT dX6_some_16 (by omega) (Nat.le_of_ble_eq_true rfl) hw ?_
      clear hw
      intro r16 V16 hw
      refine J.if_eq 44 dX6_some_19 (by decide) ⟨fun c19 => ?_, fun c19 => ?_⟩
      · obtain ⟨hw, -⟩ := hw
        specialize hw c19
        refine J.iload_n 1 dX6_some_44 rfl ?_
        exact J.zret rfl (jz_nar hw.1) dX6_some_45 ⟨_, rfl, _, rfl, hw.2⟩
      · obtain ⟨-, hw⟩ := hw
        specialize hw c19
        refine J.aload_n 0 dX6_some_22 rfl ?_
        refine uX6_247_X6_some rfl htr hT (by omega) hREC dX6_some_23 (by omega) (Nat.le_of_ble_eq_true rfl) hw ?_
        clear hw
        intro r23 V23 hw
        refine J.istore_n (lv' := [(2, .int r23), (0, .ref t), (1, .int x1)]) dX6_some_26 (by decide) rfl ?_
        refine J.iload_n 2 dX6_some_27 rfl ?_
        refine J.if_ne 35 dX6_some_28 (by decide) ⟨fun c28 => ?_, fun c28 => ?_⟩
        · obtain ⟨hw, -⟩ := hw
          specialize hw c28
          refine J.iconst (v := (1 : Int32)) dX6_some_35 (by decide) ?_
          refine J.goto 40 dX6_some_36 (by decide) ?_
          refine J.istore_n (lv' := [(1, .int (1 : Int32)), (2, .int r23), (0, .ref t)]) dX6_some_40 (by decide) rfl ?_
          refine J.goto 5 dX6_some_41 (by decide) ?_
          exact J.pick [2, 0] rfl (ih _ _ hw)
        · obtain ⟨-, hw⟩ := hw
          specialize hw c28
          refine J.iload_n 0 dX6_some_31 rfl ?_
          refine J.if_eq 39 dX6_some_32 (by decide) ⟨fun c32 => ?_, fun c32 => ?_⟩
          · obtain ⟨hw, -⟩ := hw
            specialize hw c32
            refine J.iconst (v := (0 : Int32)) dX6_some_39 (by decide) ?_
            refine J.istore_n (lv' := [(1, .int (0 : Int32)), (2, .int r23), (0, .ref t)]) dX6_some_40 (by decide) rfl ?_
            refine J.goto 5 dX6_some_41 (by decide) ?_
            exact J.pick [2, 0] rfl (ih _ _ hw)
          · obtain ⟨-, hw⟩ := hw
            specialize hw c32
            refine J.iconst (v := (1 : Int32)) dX6_some_35 (by decide) ?_
            refine J.goto 40 dX6_some_36 (by decide) ?_
            refine J.istore_n (lv' := [(1, .int (1 : Int32)), (2, .int r23), (0, .ref t)]) dX6_some_40 (by decide) rfl ?_
            refine J.goto 5 dX6_some_41 (by decide) ?_
            exact J.pick [2, 0] rfl (ih _ _ hw)
def wX6_some (t : Nat) (sh : List jH) (R : Nat → Nat → Option Nat) (REC : (Nat → Nat → Int32) → (Int32 → (Nat → Nat → Int32) → Prop) → Prop) (V : Nat → Nat → Int32) (Q : Int32 → (Nat → Nat → Int32) → Prop) : Prop :=
  (wX6_every t sh R REC V (fun r1 V1 => (∃ f9, wX6_some_5 t sh R REC Q f9 V1 r1)))
theorem mX6_some {G : jG} {l : Launch} {d : Nat} (htr : l.stackTraces = false) (hdd : 6 ≤ d) {sh : List jH} {R : Nat → Nat → Option Nat} {V : Nat → Nat → Int32} {t : Nat} (hT : jReg shX6 sh t) {REC : (Nat → Nat → Int32) → (Int32 → (Nat → Nat → Int32) → Prop) → Prop} {dr : Nat} (hdr : dr + 2 ≤ d) (hREC : ∀ {V : Nat → Nat → Int32} {Q : Int32 → (Nat → Nat → Int32) → Prop}, REC V Q → JM G l MX6_atom dr 0 0 [.ref t] (mk sh V R) (jWr sh R Q) jNo) {Q : Int32 → (Nat → Nat → Int32) → Prop} (hw : wX6_some t sh R REC V Q) : JM G l MX6_some d 0 0 [.ref t] (mk sh V R) (jWr sh R Q) jNo := by
  refine JM.intro (by decide) rfl htr (Nat.le_of_ble_eq_true rfl) ?_
  show J G l MX6_some d 0 0 0 [(0, .ref t)] [] (mk sh V R) _ _
  unfold wX6_some at hw
  refine J.aload_n 0 dX6_some_0 rfl ?_
  refine uX6_247_X6_some rfl htr hT (by omega) hREC dX6_some_1 (by omega) (Nat.le_of_ble_eq_true rfl) hw ?_
  clear hw
  intro r1 V1 hw
  refine J.istore_n (lv' := [(1, .int r1), (0, .ref t)]) dX6_some_4 (by decide) rfl ?_
  obtain ⟨f9, hw⟩ := hw
  exact J.pick [1, 0] rfl (rX6_some_5 htr hdd hT hdr hREC f9 _ _ hw)
theorem fgX6_29 {G : jG} {l : Launch} {M : jM} {d c n pc : Nat} {lv : List (Nat × Value)} {st : List Value} {sh : List jH} {V : Nat → Nat → Int32} {R : Nat → Nat → Option Nat} {post : Option Value → List jC → Prop} {xp : String → List jC → Prop} {t : Nat} (hM : M.1.cls = RX6) (hT : jReg shX6 sh t) (hd : decode M.2.1 pc = .ok (.getfield 29, 3)) (kk : J G l M d c n (pc + 3) lv (.ref (t + 6) :: st) (mk sh V R) post xp) : J G l M d c n pc lv (.ref t :: st) (mk sh V R) post xp := JV.getf (C := RX6) (T0 := TX6) (N := 28) 14 hd hT.1 (hT.at 0 rfl) rfl in_X6 (by decide) (by rw [hM]; exact q2142) rfl rfl kk
abbrev MX6_part : jM := (yX6_part, cX6_part, 2, some .int, [])
theorem uX6_113 {G : jG} {l : Launch} {M : jM} {d c n pc : Nat} {lv : List (Nat × Value)} {rest : List Value} {post : Option Value → List jC → Prop} {xp : String → List jC → Prop} (hM : M.1.cls = RX6) (htr : l.stackTraces = false) {sh : List jH} {V : Nat → Nat → Int32} {R : Nat → Nat → Option Nat} {t : Nat} (hT : jReg shX6 sh t) {a1 : Int32} {Q : (Nat → Nat → Int32) → Prop} (hd : decode M.2.1 pc = .ok (.invokevirtual 113, 3)) (hdd : 0 + 1 ≤ d) (hw8 : (rest.map fun v => v.category).sum ≤ 8) (hw : wX6_wrong t V a1 Q) (kk : ∀ V', Q V' → J G l M d c n (pc + 3) lv rest (mk sh V' R) post xp) : J G l M d c n pc lv (.int a1 :: .ref t :: rest) (mk sh V R) post xp := by
  exact J.callV (As := [.int a1]) (hcw := by rw [hM]; exact lw_V q2253 q2255 qs74 q152 q2256) (mX6_wrong htr hT hw) hd rfl ⟨5, _, _, mk_at (hT.at 0 rfl), rfl, rfl, fun _ => rfl⟩ ⟨rfl, by decide, by decide, by show _ = some 1; decide +kernel⟩ hw8 ⟨hdd, by decide⟩ jcc0 (fun r9 g9 h9 => by obtain ⟨V9, rfl, rfl, h⟩ := h9; exact kk V9 h) jNo.x
theorem uX6_121 {G : jG} {l : Launch} {M : jM} {d c n pc : Nat} {lv : List (Nat × Value)} {rest : List Value} {post : Option Value → List jC → Prop} {xp : String → List jC → Prop} (hM : M.1.cls = RX6) (htr : l.stackTraces = false) {sh : List jH} {V : Nat → Nat → Int32} {R : Nat → Nat → Option Nat} {t : Nat} (hT : jReg shX6 sh t) {a1 : Int32} {a2 : Int32} {Q : Int32 → (Nat → Nat → Int32) → Prop} (hd : decode M.2.1 pc = .ok (.invokevirtual 121, 3)) (hdd : 3 + 1 ≤ d) (hw8 : (rest.map fun v => v.category).sum ≤ 8) (hw : wX6_figures t V a1 a2 Q) (kk : ∀ r V', Q r V' → J G l M d c n (pc + 3) lv (.int r :: rest) (mk sh V' R) post xp) : J G l M d c n pc lv (.int a2 :: .int a1 :: .ref t :: rest) (mk sh V R) post xp := by
  exact J.callV (As := [.int a1, .int a2]) (hcw := by rw [hM]; exact lw_V q2270 q2272 qs77 q152 q2273) (mX6_figures htr hT hw) hd rfl ⟨5, _, _, mk_at (hT.at 0 rfl), rfl, rfl, fun _ => rfl⟩ ⟨rfl, by decide, by decide, by show _ = some 2; decide +kernel⟩ hw8 ⟨hdd, by decide⟩ jcc0 (fun r9 g9 h9 => by obtain ⟨V9, rfl, r, rfl, h⟩ := h9; exact kk r V9 h) jNo.x
-- VisitingHoursModel.part()I
def wX6_part_145 (t : Nat) (sh : List jH) (R : Nat → Nat → Option Nat) (Q : Int32 → (Nat → Nat → Int32) → Prop) (V : Nat → Nat → Int32) (s0 : Int32) : Prop :=
  ((¬ s0 = (-1 : Int32) → (vp_in s0 7 ∧ Q (V (t + 6) s0.toNatClampNeg) V)) ∧ (s0 = (-1 : Int32) → (wX6_wrong t V (V t 11) (fun V156 => Q (0 : Int32) V156))))
theorem rX6_part_145 {G : jG} {l : Launch} {d : Nat} {c n : Nat} (htr : l.stackTraces = false) (hdd : 5 ≤ d) {sh : List jH} {R : Nat → Nat → Option Nat} {t : Nat} (hT : jReg shX6 sh t) {Q : Int32 → (Nat → Nat → Int32) → Prop} {V : Nat → Nat → Int32} {s0 : Int32} (hw : wX6_part_145 t sh R Q V s0) : J G l MX6_part d c n 145 [(0, .ref t)] [.int s0] (mk sh V R) (jWr sh R Q) jNo := by
  unfold wX6_part_145 at hw
  refine J.istore_n (lv' := [(1, .int s0), (0, .ref t)]) dX6_part_145 (by decide) rfl ?_
  refine J.iload_n 0 dX6_part_146 rfl ?_
  refine J.iconst (v := (-1 : Int32)) dX6_part_147 (by decide) ?_
  refine J.icmp_ne 161 dX6_part_148 (by decide) ⟨fun c148 => ?_, fun c148 => ?_⟩
  · obtain ⟨hw, -⟩ := hw
    specialize hw c148
    refine J.aload_n 1 dX6_part_161 rfl ?_
    refine fgX6_29 rfl hT dX6_part_162 ?_
    refine J.iload_n 0 dX6_part_165 rfl ?_
    obtain ⟨h166, hw⟩ := hw
    refine JV.iald dX6_part_166 (hT.ge 6) (hT.at 6 rfl) h166 ?_
    exact J.iret rfl dX6_part_167 ⟨_, rfl, _, rfl, hw⟩
  · obtain ⟨-, hw⟩ := hw
    specialize hw c148
    refine J.aload_n 1 dX6_part_151 rfl ?_
    refine J.aload_n 1 dX6_part_152 rfl ?_
    refine fgX6_87 rfl hT dX6_part_153 ?_
    refine uX6_113 rfl htr hT dX6_part_156 (by omega) (Nat.le_of_ble_eq_true rfl) hw ?_
    clear hw
    intro V156 hw
    refine J.iconst (v := (0 : Int32)) dX6_part_159 (by decide) ?_
    exact J.iret rfl dX6_part_160 ⟨_, rfl, _, rfl, hw⟩
def wX6_part_52 (t : Nat) (sh : List jH) (R : Nat → Nat → Option Nat) (Q : Int32 → (Nat → Nat → Int32) → Prop) (V : Nat → Nat → Int32) : Prop :=
  (wX6_has t sh R V 0 (fun r55 V55 => ((r55 = 0 → (wX6_has t sh R V55 2 (fun r68 V68 => ((r68 = 0 → (wX6_has t sh R V68 44 (fun r81 V81 => ((r81 = 0 → (wX6_has t sh R V81 46 (fun r94 V94 => ((r94 = 0 → (wX6_has t sh R V94 48 (fun r107 V107 => ((r107 = 0 → (wX6_has t sh R V107 50 (fun r120 V120 => ((r120 = 0 → (wX6_has t sh R V120 10 (fun r133 V133 => ((r133 = 0 → wX6_part_145 t sh R Q V133 (-1 : Int32)) ∧ (¬ r133 = 0 → wX6_part_145 t sh R Q V133 (6 : Int32)))))) ∧ (¬ r120 = 0 → wX6_part_145 t sh R Q V120 (5 : Int32)))))) ∧ (¬ r107 = 0 → wX6_part_145 t sh R Q V107 (4 : Int32)))))) ∧ (¬ r94 = 0 → wX6_part_145 t sh R Q V94 (3 : Int32)))))) ∧ (¬ r81 = 0 → wX6_part_145 t sh R Q V81 (2 : Int32)))))) ∧ (¬ r68 = 0 → wX6_part_145 t sh R Q V68 (1 : Int32)))))) ∧ (¬ r55 = 0 → wX6_part_145 t sh R Q V55 (0 : Int32)))))
theorem rX6_part_52 {G : jG} {l : Launch} {d : Nat} {c n : Nat} (htr : l.stackTraces = false) (hdd : 5 ≤ d) {sh : List jH} {R : Nat → Nat → Option Nat} {t : Nat} (hT : jReg shX6 sh t) {Q : Int32 → (Nat → Nat → Int32) → Prop} {V : Nat → Nat → Int32} (hw : wX6_part_52 t sh R Q V) : J G l MX6_part d c n 52 [(0, .ref t)] [] (mk sh V R) (jWr sh R Q) jNo := by
  unfold wX6_part_52 at hw
  refine J.aload_n 0 dX6_part_52 rfl ?_
  refine J.ldcS dX6_part_53 jl_2310 (by decide) ?_
  refine uX6_117 rfl htr hT dX6_part_55 (by omega) (Nat.le_of_ble_eq_true rfl) hw ?_
  clear hw
  intro r55 V55 hw
  refine J.if_eq 65 dX6_part_58 (by decide) ⟨fun c58 => ?_, fun c58 => ?_⟩
  · obtain ⟨hw, -⟩ := hw
    specialize hw c58
    refine J.aload_n 0 dX6_part_65 rfl ?_
    refine J.ldcS dX6_part_66 jl_2311 (by decide) ?_
    refine uX6_117 rfl htr hT dX6_part_68 (by omega) (Nat.le_of_ble_eq_true rfl) hw ?_
    clear hw
    intro r68 V68 hw
    refine J.if_eq 78 dX6_part_71 (by decide) ⟨fun c71 => ?_, fun c71 => ?_⟩
    · obtain ⟨hw, -⟩ := hw
      specialize hw c71
      refine J.aload_n 0 dX6_part_78 rfl ?_
      refine J.ldcS dX6_part_79 jl_2312 (by decide) ?_
      refine uX6_117 rfl htr hT dX6_part_81 (by omega) (Nat.le_of_ble_eq_true rfl) hw ?_
      clear hw
      intro r81 V81 hw
      refine J.if_eq 91 dX6_part_84 (by decide) ⟨fun c84 => ?_, fun c84 => ?_⟩
      · obtain ⟨hw, -⟩ := hw
        specialize hw c84
        refine J.aload_n 0 dX6_part_91 rfl ?_
        refine J.ldcS dX6_part_92 jl_2313 (by decide) ?_
        refine uX6_117 rfl htr hT dX6_part_94 (by omega) (Nat.le_of_ble_eq_true rfl) hw ?_
        clear hw
        intro r94 V94 hw
        refine J.if_eq 104 dX6_part_97 (by decide) ⟨fun c97 => ?_, fun c97 => ?_⟩
        · obtain ⟨hw, -⟩ := hw
          specialize hw c97
          refine J.aload_n 0 dX6_part_104 rfl ?_
          refine J.ldcS dX6_part_105 jl_2314 (by decide) ?_
          refine uX6_117 rfl htr hT dX6_part_107 (by omega) (Nat.le_of_ble_eq_true rfl) hw ?_
          clear hw
          intro r107 V107 hw
          refine J.if_eq 117 dX6_part_110 (by decide) ⟨fun c110 => ?_, fun c110 => ?_⟩
          · obtain ⟨hw, -⟩ := hw
            specialize hw c110
            refine J.aload_n 0 dX6_part_117 rfl ?_
            refine J.ldcS dX6_part_118 jl_2315 (by decide) ?_
            refine uX6_117 rfl htr hT dX6_part_120 (by omega) (Nat.le_of_ble_eq_true rfl) hw ?_
            clear hw
            intro r120 V120 hw
            refine J.if_eq 130 dX6_part_123 (by decide) ⟨fun c123 => ?_, fun c123 => ?_⟩
            · obtain ⟨hw, -⟩ := hw
              specialize hw c123
              refine J.aload_n 0 dX6_part_130 rfl ?_
              refine J.ldcS dX6_part_131 jl_2316 (by decide) ?_
              refine uX6_117 rfl htr hT dX6_part_133 (by omega) (Nat.le_of_ble_eq_true rfl) hw ?_
              clear hw
              intro r133 V133 hw
              refine J.if_eq 144 dX6_part_136 (by decide) ⟨fun c136 => ?_, fun c136 => ?_⟩
              · obtain ⟨hw, -⟩ := hw
                specialize hw c136
                refine J.iconst (v := (-1 : Int32)) dX6_part_144 (by decide) ?_
                exact (rX6_part_145 htr hdd hT hw)
              · obtain ⟨-, hw⟩ := hw
                specialize hw c136
                refine J.bipush (v := (6 : Int32)) dX6_part_139 (by decide) ?_
                refine J.goto 145 dX6_part_141 (by decide) ?_
                exact (rX6_part_145 htr hdd hT hw)
            · obtain ⟨-, hw⟩ := hw
              specialize hw c123
              refine J.iconst (v := (5 : Int32)) dX6_part_126 (by decide) ?_
              refine J.goto 145 dX6_part_127 (by decide) ?_
              exact (rX6_part_145 htr hdd hT hw)
          · obtain ⟨-, hw⟩ := hw
            specialize hw c110
            refine J.iconst (v := (4 : Int32)) dX6_part_113 (by decide) ?_
            refine J.goto 145 dX6_part_114 (by decide) ?_
            exact (rX6_part_145 htr hdd hT hw)
        · obtain ⟨-, hw⟩ := hw
          specialize hw c97
          refine J.iconst (v := (3 : Int32)) dX6_part_100 (by decide) ?_
          refine J.goto 145 dX6_part_101 (by decide) ?_
          exact (rX6_part_145 htr hdd hT hw)
      · obtain ⟨-, hw⟩ := hw
        specialize hw c84
        refine J.iconst (v := (2 : Int32)) dX6_part_87 (by decide) ?_
        refine J.goto 145 dX6_part_88 (by decide) ?_
        exact (rX6_part_145 htr hdd hT hw)
    · obtain ⟨-, hw⟩ := hw
      specialize hw c71
      refine J.iconst (v := (1 : Int32)) dX6_part_74 (by decide) ?_
      refine J.goto 145 dX6_part_75 (by decide) ?_
      exact (rX6_part_145 htr hdd hT hw)
  · obtain ⟨-, hw⟩ := hw
    specialize hw c58
    refine J.iconst (v := (0 : Int32)) dX6_part_61 (by decide) ?_
    refine J.goto 145 dX6_part_62 (by decide) ?_
    exact (rX6_part_145 htr hdd hT hw)
def wX6_part (t : Nat) (sh : List jH) (R : Nat → Nat → Option Nat) (V : Nat → Nat → Int32) (Q : Int32 → (Nat → Nat → Int32) → Prop) : Prop :=
  (((V t 12) = (-1 : Int32) → (wX6_skip t V (fun V11 => (((V11 t 10) ≤ (V11 t 11) → wX6_part_52 t sh R Q V11) ∧ (¬ (V11 t 10) ≤ (V11 t 11) → (wX6_letter t V11 (V11 t 11) (fun r30 => (wX6_isIn r30 (48 : Int32) (57 : Int32) (fun r37 => ((r37 = 0 → wX6_part_52 t sh R Q V11) ∧ (¬ r37 = 0 → (wX6_figures t V11 (0 : Int32) (999 : Int32) (fun r48 V48 => Q r48 V48))))))))))))) ∧ (¬ (V t 12) = (-1 : Int32) → Q (0 : Int32) V))
theorem mX6_part {G : jG} {l : Launch} {d : Nat} (htr : l.stackTraces = false) (hdd : 5 ≤ d) {sh : List jH} {R : Nat → Nat → Option Nat} {V : Nat → Nat → Int32} {t : Nat} (hT : jReg shX6 sh t) {Q : Int32 → (Nat → Nat → Int32) → Prop} (hw : wX6_part t sh R V Q) : JM G l MX6_part d 0 0 [.ref t] (mk sh V R) (jWr sh R Q) jNo := by
  refine JM.intro (by decide) rfl htr (Nat.le_of_ble_eq_true rfl) ?_
  show J G l MX6_part d 0 0 0 [(0, .ref t)] [] (mk sh V R) _ _
  unfold wX6_part at hw
  refine J.aload_n 0 dX6_part_0 rfl ?_
  refine fgX6_25 rfl hT dX6_part_1 ?_
  refine J.iconst (v := (-1 : Int32)) dX6_part_4 (by decide) ?_
  refine J.icmp_eq 10 dX6_part_5 (by decide) ⟨fun c5 => ?_, fun c5 => ?_⟩
  · obtain ⟨hw, -⟩ := hw
    specialize hw c5
    refine J.aload_n 0 dX6_part_10 rfl ?_
    refine uX6_97 rfl htr hT dX6_part_11 (by omega) (Nat.le_of_ble_eq_true rfl) hw ?_
    clear hw
    intro V11 hw
    refine J.aload_n 0 dX6_part_14 rfl ?_
    refine fgX6_87 rfl hT dX6_part_15 ?_
    refine J.aload_n 0 dX6_part_18 rfl ?_
    refine fgX6_90 rfl hT dX6_part_19 ?_
    refine J.icmp_ge 52 dX6_part_22 (by decide) ⟨fun c22 => ?_, fun c22 => ?_⟩
    · obtain ⟨hw, -⟩ := hw
      specialize hw c22
      exact (rX6_part_52 htr hdd hT hw)
    · obtain ⟨-, hw⟩ := hw
      specialize hw c22
      refine J.aload_n 0 dX6_part_25 rfl ?_
      refine J.aload_n 0 dX6_part_26 rfl ?_
      refine fgX6_87 rfl hT dX6_part_27 ?_
      refine uX6_93 rfl htr hT dX6_part_30 (by omega) (Nat.le_of_ble_eq_true rfl) hw ?_
      clear hw
      intro r30 hw
      refine J.bipush (v := (48 : Int32)) dX6_part_33 (by decide) ?_
      refine J.bipush (v := (57 : Int32)) dX6_part_35 (by decide) ?_
      refine uX6_57 rfl htr dX6_part_37 (by omega) (Nat.le_of_ble_eq_true rfl) hw ?_
      clear hw
      intro r37 hw
      refine J.if_eq 52 dX6_part_40 (by decide) ⟨fun c40 => ?_, fun c40 => ?_⟩
      · obtain ⟨hw, -⟩ := hw
        specialize hw c40
        exact (rX6_part_52 htr hdd hT hw)
      · obtain ⟨-, hw⟩ := hw
        specialize hw c40
        refine J.aload_n 0 dX6_part_43 rfl ?_
        refine J.iconst (v := (0 : Int32)) dX6_part_44 (by decide) ?_
        refine J.sipush (v := (999 : Int32)) dX6_part_45 (by decide) ?_
        refine uX6_121 rfl htr hT dX6_part_48 (by omega) (Nat.le_of_ble_eq_true rfl) hw ?_
        clear hw
        intro r48 V48 hw
        exact J.iret rfl dX6_part_51 ⟨_, rfl, _, rfl, hw⟩
  · obtain ⟨-, hw⟩ := hw
    specialize hw c5
    refine J.iconst (v := (0 : Int32)) dX6_part_8 (by decide) ?_
    exact J.iret rfl dX6_part_9 ⟨_, rfl, _, rfl, hw⟩
abbrev MX6_sum : jM := (yX6_sum, cX6_sum, 2, some .int, [])
theorem uX6_188 {G : jG} {l : Launch} {M : jM} {d c n pc : Nat} {lv : List (Nat × Value)} {rest : List Value} {post : Option Value → List jC → Prop} {xp : String → List jC → Prop} (hM : M.1.cls = RX6) (htr : l.stackTraces = false) {sh : List jH} {V : Nat → Nat → Int32} {R : Nat → Nat → Option Nat} {t : Nat} (hT : jReg shX6 sh t) {a1 : Int32} {Q : Int32 → (Nat → Nat → Int32) → Prop} (hd : decode M.2.1 pc = .ok (.invokevirtual 188, 3)) (hdd : 2 + 1 ≤ d) (hw8 : (rest.map fun v => v.category).sum ≤ 8) (hw : wX6_isSign t V a1 Q) (kk : ∀ r V', Q r V' → J G l M d c n (pc + 3) lv (.int r :: rest) (mk sh V' R) post xp) : J G l M d c n pc lv (.int a1 :: .ref t :: rest) (mk sh V R) post xp := by
  exact J.callV (As := [.int a1]) (hcw := by rw [hM]; exact lw_V q2292 q2294 qs82 q152 q2295) (mX6_isSign htr hT hw) hd rfl ⟨5, _, _, mk_at (hT.at 0 rfl), rfl, rfl, fun _ => rfl⟩ ⟨rfl, by decide, by decide, by show _ = some 1; decide +kernel⟩ hw8 ⟨hdd, by decide⟩ jcc0 (fun r9 g9 h9 => by obtain ⟨V9, rfl, r, rfl, h⟩ := h9; exact kk r V9 h) jNo.x
theorem uX6_216 {G : jG} {l : Launch} {M : jM} {d c n pc : Nat} {lv : List (Nat × Value)} {rest : List Value} {post : Option Value → List jC → Prop} {xp : String → List jC → Prop} (hM : M.1.cls = RX6) (htr : l.stackTraces = false) {sh : List jH} {V : Nat → Nat → Int32} {R : Nat → Nat → Option Nat} {t : Nat} (hT : jReg shX6 sh t) {Q : Int32 → (Nat → Nat → Int32) → Prop} (hd : decode M.2.1 pc = .ok (.invokevirtual 216, 3)) (hdd : 5 + 1 ≤ d) (hw8 : (rest.map fun v => v.category).sum ≤ 8) (hw : wX6_part t sh R V Q) (kk : ∀ r V', Q r V' → J G l M d c n (pc + 3) lv (.int r :: rest) (mk sh V' R) post xp) : J G l M d c n pc lv (.ref t :: rest) (mk sh V R) post xp := by
  exact J.callV (As := []) (hcw := by rw [hM]; exact lw_V q2306 q2308 qs85 q152 q2309) (mX6_part htr (Nat.le_refl _) hT hw) hd rfl ⟨5, _, _, mk_at (hT.at 0 rfl), rfl, rfl, fun _ => rfl⟩ ⟨rfl, by decide, by decide, by show _ = some 0; decide +kernel⟩ hw8 ⟨hdd, by decide⟩ jcc0 (fun r9 g9 h9 => by obtain ⟨V9, rfl, r, rfl, h⟩ := h9; exact kk r V9 h) jNo.x
-- VisitingHoursModel.sum()I
def wX6_sum_5 (t : Nat) (sh : List jH) (R : Nat → Nat → Option Nat) (Q : Int32 → (Nat → Nat → Int32) → Prop) : Nat → (Nat → Nat → Int32) → Int32 → Prop
  | 0, _, _ => False
  | f + 1, V, x1 =>
    ((¬ (V t 12) = (-1 : Int32) → Q x1 V) ∧ ((V t 12) = (-1 : Int32) → (wX6_isSign t V (43 : Int32) (fun r16 V16 => ((r16 = 0 → Q x1 V16) ∧ (¬ r16 = 0 → (∀ y29 : Int32, y29 = ((V16 t 11) + (1 : Int32)) → (wX6_part t sh R (vset V16 t 11 y29) (fun r34 V34 => (∀ y38 : Int32, y38 = (x1 + r34) → wX6_sum_5 t sh R Q f V34 y38))))))))))
theorem rX6_sum_5 {G : jG} {l : Launch} {d : Nat} {c n : Nat} (htr : l.stackTraces = false) (hdd : 6 ≤ d) {sh : List jH} {R : Nat → Nat → Option Nat} {t : Nat} (hT : jReg shX6 sh t) {Q : Int32 → (Nat → Nat → Int32) → Prop} : ∀ (f : Nat) (V : Nat → Nat → Int32) (x1 : Int32), wX6_sum_5 t sh R Q f V x1 → J G l MX6_sum d c n 5 [(0, .ref t), (1, .int x1)] [] (mk sh V R) (jWr sh R Q) jNo := by
  intro f
  induction f with
  | zero =>
    intro V x1 hw
    rw [wX6_sum_5] at hw
    exact hw.elim
  | succ f ih =>
    intro V x1 hw
    rw [wX6_sum_5] at hw
    refine J.aload_n 0 dX6_sum_5 rfl ?_
    refine fgX6_25 rfl hT dX6_sum_6 ?_
    refine J.iconst (v := (-1 : Int32)) dX6_sum_9 (by decide) ?_
    refine J.icmp_ne 42 dX6_sum_10 (by decide) ⟨fun c10 => ?_, fun c10 => ?_⟩
    · obtain ⟨hw, -⟩ := hw
      specialize hw c10
      refine J.iload_n 1 dX6_sum_42 rfl ?_
      exact J.iret rfl dX6_sum_43 ⟨_, rfl, _, rfl, hw⟩
    · obtain ⟨-, hw⟩ := hw
      specialize hw c10
      refine J.aload_n 0 dX6_sum_13 rfl ?_
      refine J.bipush (v := (43 : Int32)) dX6_sum_14 (by decide) ?_
      refine uX6_188 rfl htr hT dX6_sum_16 (by omega) (Nat.le_of_ble_eq_true rfl) hw ?_
      clear hw
      intro r16 V16 hw
      refine J.if_eq 42 dX6_sum_19 (by decide) ⟨fun c19 => ?_, fun c19 => ?_⟩
      · obtain ⟨hw, -⟩ := hw
        specialize hw c19
        refine J.iload_n 1 dX6_sum_42 rfl ?_
        exact J.iret rfl dX6_sum_43 ⟨_, rfl, _, rfl, hw⟩
      · obtain ⟨-, hw⟩ := hw
        specialize hw c19
        refine J.aload_n 0 dX6_sum_22 rfl ?_
        refine J.dup dX6_sum_23 rfl ?_
        refine fgX6_87 rfl hT dX6_sum_24 ?_
        refine J.iconst (v := (1 : Int32)) dX6_sum_27 (by decide) ?_
        refine J.iadd dX6_sum_28 ?_
        refine J.nm hw (fun y29 hw => ?_)
        refine fpX6_87 rfl hT dX6_sum_29 ?_
        refine J.iload_n 1 dX6_sum_32 rfl ?_
        refine J.aload_n 0 dX6_sum_33 rfl ?_
        refine uX6_216 rfl htr hT dX6_sum_34 (by omega) (Nat.le_of_ble_eq_true rfl) hw ?_
        clear hw
        intro r34 V34 hw
        refine J.iadd dX6_sum_37 ?_
        refine J.nm hw (fun y38 hw => ?_)
        refine J.istore_n (lv' := [(1, .int y38), (0, .ref t)]) dX6_sum_38 (by decide) rfl ?_
        refine J.goto 5 dX6_sum_39 (by decide) ?_
        exact J.pick [1, 0] rfl (ih _ _ hw)
def wX6_sum (t : Nat) (sh : List jH) (R : Nat → Nat → Option Nat) (V : Nat → Nat → Int32) (Q : Int32 → (Nat → Nat → Int32) → Prop) : Prop :=
  (wX6_part t sh R V (fun r1 V1 => (∃ f9, wX6_sum_5 t sh R Q f9 V1 r1)))
theorem mX6_sum {G : jG} {l : Launch} {d : Nat} (htr : l.stackTraces = false) (hdd : 6 ≤ d) {sh : List jH} {R : Nat → Nat → Option Nat} {V : Nat → Nat → Int32} {t : Nat} (hT : jReg shX6 sh t) {Q : Int32 → (Nat → Nat → Int32) → Prop} (hw : wX6_sum t sh R V Q) : JM G l MX6_sum d 0 0 [.ref t] (mk sh V R) (jWr sh R Q) jNo := by
  refine JM.intro (by decide) rfl htr (Nat.le_of_ble_eq_true rfl) ?_
  show J G l MX6_sum d 0 0 0 [(0, .ref t)] [] (mk sh V R) _ _
  unfold wX6_sum at hw
  refine J.aload_n 0 dX6_sum_0 rfl ?_
  refine uX6_216 rfl htr hT dX6_sum_1 (by omega) (Nat.le_of_ble_eq_true rfl) hw ?_
  clear hw
  intro r1 V1 hw
  refine J.istore_n (lv' := [(1, .int r1), (0, .ref t)]) dX6_sum_4 (by decide) rfl ?_
  obtain ⟨f9, hw⟩ := hw
  exact J.pick [1, 0] rfl (rX6_sum_5 htr hdd hT f9 _ _ hw)
theorem fgX6_221 {G : jG} {l : Launch} {M : jM} {d c n pc : Nat} {lv : List (Nat × Value)} {st : List Value} {sh : List jH} {V : Nat → Nat → Int32} {R : Nat → Nat → Option Nat} {post : Option Value → List jC → Prop} {xp : String → List jC → Prop} {t : Nat} (hM : M.1.cls = RX6) (hT : jReg shX6 sh t) (hd : decode M.2.1 pc = .ok (.getfield 221, 3)) (kk : J G l M d c n (pc + 3) lv (.int (V t 15) :: st) (mk sh V R) post xp) : J G l M d c n pc lv (.ref t :: st) (mk sh V R) post xp := JV.getf (C := RX6) (T0 := TX6) (N := 28) 15 hd hT.1 (hT.at 0 rfl) rfl in_X6 (by decide) (by rw [hM]; exact q2143) rfl rfl kk
theorem fgX6_227 {G : jG} {l : Launch} {M : jM} {d c n pc : Nat} {lv : List (Nat × Value)} {st : List Value} {sh : List jH} {V : Nat → Nat → Int32} {R : Nat → Nat → Option Nat} {post : Option Value → List jC → Prop} {xp : String → List jC → Prop} {t : Nat} (hM : M.1.cls = RX6) (hT : jReg shX6 sh t) (hd : decode M.2.1 pc = .ok (.getfield 227, 3)) (kk : J G l M d c n (pc + 3) lv (.int (V t 16) :: st) (mk sh V R) post xp) : J G l M d c n pc lv (.ref t :: st) (mk sh V R) post xp := JV.getf (C := RX6) (T0 := TX6) (N := 28) 16 hd hT.1 (hT.at 0 rfl) rfl in_X6 (by decide) (by rw [hM]; exact q2144) rfl rfl kk
abbrev MX6_plain : jM := (yX6_plain, cX6_plain, 4, some .boolean, [])
theorem uX6_230 {G : jG} {l : Launch} {M : jM} {d c n pc : Nat} {lv : List (Nat × Value)} {rest : List Value} {post : Option Value → List jC → Prop} {xp : String → List jC → Prop} (hM : M.1.cls = RX6) (htr : l.stackTraces = false) {sh : List jH} {V : Nat → Nat → Int32} {R : Nat → Nat → Option Nat} {t : Nat} (hT : jReg shX6 sh t) {Q : Int32 → (Nat → Nat → Int32) → Prop} (hd : decode M.2.1 pc = .ok (.invokevirtual 230, 3)) (hdd : 6 + 1 ≤ d) (hw8 : (rest.map fun v => v.category).sum ≤ 8) (hw : wX6_sum t sh R V Q) (kk : ∀ r V', Q r V' → J G l M d c n (pc + 3) lv (.int r :: rest) (mk sh V' R) post xp) : J G l M d c n pc lv (.ref t :: rest) (mk sh V R) post xp := by
  exact J.callV (As := []) (hcw := by rw [hM]; exact lw_V q2302 q2304 qs84 q152 q2305) (mX6_sum htr (Nat.le_refl _) hT hw) hd rfl ⟨5, _, _, mk_at (hT.at 0 rfl), rfl, rfl, fun _ => rfl⟩ ⟨rfl, by decide, by decide, by show _ = some 0; decide +kernel⟩ hw8 ⟨hdd, by decide⟩ jcc0 (fun r9 g9 h9 => by obtain ⟨V9, rfl, r, rfl, h⟩ := h9; exact kk r V9 h) jNo.x
-- VisitingHoursModel.plain()Z
def wX6_plain_73 (t : Nat) (sh : List jH) (R : Nat → Nat → Option Nat) (Q : Int32 → (Nat → Nat → Int32) → Prop) (V : Nat → Nat → Int32) (x1 : Int32) (x2 : Int32) : Prop :=
  (∀ y80 : Int32, y80 = ((V t 11) + (1 : Int32)) → (wX6_sum t sh R (vset V t 11 y80) (fun r84 V84 => ((x2 = 0 → ((x1 ≤ r84 → Q (0 : Int32) V84) ∧ (¬ x1 ≤ r84 → Q (1 : Int32) V84))) ∧ (¬ x2 = 0 → ((r84 ≤ x1 → Q (0 : Int32) V84) ∧ (¬ r84 ≤ x1 → Q (1 : Int32) V84)))))))
theorem rX6_plain_73 {G : jG} {l : Launch} {d : Nat} {c n : Nat} (htr : l.stackTraces = false) (hdd : 7 ≤ d) {sh : List jH} {R : Nat → Nat → Option Nat} {t : Nat} (hT : jReg shX6 sh t) {Q : Int32 → (Nat → Nat → Int32) → Prop} {V : Nat → Nat → Int32} {x1 : Int32} {x2 : Int32} (hw : wX6_plain_73 t sh R Q V x1 x2) : J G l MX6_plain d c n 73 [(0, .ref t), (1, .int x1), (2, .int x2)] [] (mk sh V R) (jWr sh R Q) jNo := by
  unfold wX6_plain_73 at hw
  refine J.aload_n 0 dX6_plain_73 rfl ?_
  refine J.dup dX6_plain_74 rfl ?_
  refine fgX6_87 rfl hT dX6_plain_75 ?_
  refine J.iconst (v := (1 : Int32)) dX6_plain_78 (by decide) ?_
  refine J.iadd dX6_plain_79 ?_
  refine J.nm hw (fun y80 hw => ?_)
  refine fpX6_87 rfl hT dX6_plain_80 ?_
  refine J.aload_n 0 dX6_plain_83 rfl ?_
  refine uX6_230 rfl htr hT dX6_plain_84 (by omega) (Nat.le_of_ble_eq_true rfl) hw ?_
  clear hw
  intro r84 V84 hw
  refine J.istore_n (lv' := [(3, .int r84), (0, .ref t), (1, .int x1), (2, .int x2)]) dX6_plain_87 (by decide) rfl ?_
  refine J.iload_n 3 dX6_plain_88 rfl ?_
  refine J.if_eq 105 dX6_plain_89 (by decide) ⟨fun c89 => ?_, fun c89 => ?_⟩
  · obtain ⟨hw, -⟩ := hw
    specialize hw c89
    refine J.iload_n 2 dX6_plain_105 rfl ?_
    refine J.iload_n 0 dX6_plain_106 rfl ?_
    refine J.icmp_le 114 dX6_plain_107 (by decide) ⟨fun c107 => ?_, fun c107 => ?_⟩
    · obtain ⟨hw, -⟩ := hw
      specialize hw c107
      refine J.iconst (v := (0 : Int32)) dX6_plain_114 (by decide) ?_
      exact J.zret rfl rfl dX6_plain_115 ⟨_, rfl, _, rfl, hw⟩
    · obtain ⟨-, hw⟩ := hw
      specialize hw c107
      refine J.iconst (v := (1 : Int32)) dX6_plain_110 (by decide) ?_
      refine J.goto 115 dX6_plain_111 (by decide) ?_
      exact J.zret rfl rfl dX6_plain_115 ⟨_, rfl, _, rfl, hw⟩
  · obtain ⟨-, hw⟩ := hw
    specialize hw c89
    refine J.iload_n 2 dX6_plain_92 rfl ?_
    refine J.iload_n 0 dX6_plain_93 rfl ?_
    refine J.icmp_ge 101 dX6_plain_94 (by decide) ⟨fun c94 => ?_, fun c94 => ?_⟩
    · obtain ⟨hw, -⟩ := hw
      specialize hw c94
      refine J.iconst (v := (0 : Int32)) dX6_plain_101 (by decide) ?_
      refine J.goto 115 dX6_plain_102 (by decide) ?_
      exact J.zret rfl rfl dX6_plain_115 ⟨_, rfl, _, rfl, hw⟩
    · obtain ⟨-, hw⟩ := hw
      specialize hw c94
      refine J.iconst (v := (1 : Int32)) dX6_plain_97 (by decide) ?_
      refine J.goto 115 dX6_plain_98 (by decide) ?_
      exact J.zret rfl rfl dX6_plain_115 ⟨_, rfl, _, rfl, hw⟩
def wX6_plain (t : Nat) (sh : List jH) (R : Nat → Nat → Option Nat) (V : Nat → Nat → Int32) (Q : Int32 → (Nat → Nat → Int32) → Prop) : Prop :=
  (wX6_has t sh R V 30 (fun r3 V3 => ((r3 = 0 → (wX6_has t sh R V3 32 (fun r17 V17 => ((r17 = 0 → (wX6_sum t sh R V17 (fun r29 V29 => (((V29 t 12) = (-1 : Int32) → (wX6_isSign t V29 (60 : Int32) (fun r46 V46 => ((¬ r46 = 0 → wX6_plain_73 t sh R Q V46 r29 r46) ∧ (r46 = 0 → (wX6_isSign t V46 (62 : Int32) (fun r57 V57 => ((¬ r57 = 0 → wX6_plain_73 t sh R Q V57 r29 r46) ∧ (r57 = 0 → (wX6_wrong t V57 (V57 t 11) (fun V68 => Q (0 : Int32) V68))))))))))) ∧ (¬ (V29 t 12) = (-1 : Int32) → Q (0 : Int32) V29))))) ∧ (¬ r17 = 0 → (jz (V17 t 16) ∧ Q (V17 t 16) V17)))))) ∧ (¬ r3 = 0 → (jz (V3 t 15) ∧ Q (V3 t 15) V3)))))
theorem mX6_plain {G : jG} {l : Launch} {d : Nat} (htr : l.stackTraces = false) (hdd : 7 ≤ d) {sh : List jH} {R : Nat → Nat → Option Nat} {V : Nat → Nat → Int32} {t : Nat} (hT : jReg shX6 sh t) {Q : Int32 → (Nat → Nat → Int32) → Prop} (hw : wX6_plain t sh R V Q) : JM G l MX6_plain d 0 0 [.ref t] (mk sh V R) (jWr sh R Q) jNo := by
  refine JM.intro (by decide) rfl htr (Nat.le_of_ble_eq_true rfl) ?_
  show J G l MX6_plain d 0 0 0 [(0, .ref t)] [] (mk sh V R) _ _
  unfold wX6_plain at hw
  refine J.aload_n 0 dX6_plain_0 rfl ?_
  refine J.ldcS dX6_plain_1 jl_2300 (by decide) ?_
  refine uX6_117 rfl htr hT dX6_plain_3 (by omega) (Nat.le_of_ble_eq_true rfl) hw ?_
  clear hw
  intro r3 V3 hw
  refine J.if_eq 14 dX6_plain_6 (by decide) ⟨fun c6 => ?_, fun c6 => ?_⟩
  · obtain ⟨hw, -⟩ := hw
    specialize hw c6
    refine J.aload_n 0 dX6_plain_14 rfl ?_
    refine J.ldcS dX6_plain_15 jl_2301 (by decide) ?_
    refine uX6_117 rfl htr hT dX6_plain_17 (by omega) (Nat.le_of_ble_eq_true rfl) hw ?_
    clear hw
    intro r17 V17 hw
    refine J.if_eq 28 dX6_plain_20 (by decide) ⟨fun c20 => ?_, fun c20 => ?_⟩
    · obtain ⟨hw, -⟩ := hw
      specialize hw c20
      refine J.aload_n 0 dX6_plain_28 rfl ?_
      refine uX6_230 rfl htr hT dX6_plain_29 (by omega) (Nat.le_of_ble_eq_true rfl) hw ?_
      clear hw
      intro r29 V29 hw
      refine J.istore_n (lv' := [(1, .int r29), (0, .ref t)]) dX6_plain_32 (by decide) rfl ?_
      refine J.aload_n 1 dX6_plain_33 rfl ?_
      refine fgX6_25 rfl hT dX6_plain_34 ?_
      refine J.iconst (v := (-1 : Int32)) dX6_plain_37 (by decide) ?_
      refine J.icmp_eq 43 dX6_plain_38 (by decide) ⟨fun c38 => ?_, fun c38 => ?_⟩
      · obtain ⟨hw, -⟩ := hw
        specialize hw c38
        refine J.aload_n 1 dX6_plain_43 rfl ?_
        refine J.bipush (v := (60 : Int32)) dX6_plain_44 (by decide) ?_
        refine uX6_188 rfl htr hT dX6_plain_46 (by omega) (Nat.le_of_ble_eq_true rfl) hw ?_
        clear hw
        intro r46 V46 hw
        refine J.istore_n (lv' := [(2, .int r46), (1, .int r29), (0, .ref t)]) dX6_plain_49 (by decide) rfl ?_
        refine J.iload_n 0 dX6_plain_50 rfl ?_
        refine J.if_ne 73 dX6_plain_51 (by decide) ⟨fun c51 => ?_, fun c51 => ?_⟩
        · obtain ⟨hw, -⟩ := hw
          specialize hw c51
          exact J.pick [2, 1, 0] rfl (rX6_plain_73 htr hdd hT hw)
        · obtain ⟨-, hw⟩ := hw
          specialize hw c51
          refine J.aload_n 2 dX6_plain_54 rfl ?_
          refine J.bipush (v := (62 : Int32)) dX6_plain_55 (by decide) ?_
          refine uX6_188 rfl htr hT dX6_plain_57 (by omega) (Nat.le_of_ble_eq_true rfl) hw ?_
          clear hw
          intro r57 V57 hw
          refine J.if_ne 73 dX6_plain_60 (by decide) ⟨fun c60 => ?_, fun c60 => ?_⟩
          · obtain ⟨hw, -⟩ := hw
            specialize hw c60
            exact J.pick [2, 1, 0] rfl (rX6_plain_73 htr hdd hT hw)
          · obtain ⟨-, hw⟩ := hw
            specialize hw c60
            refine J.aload_n 2 dX6_plain_63 rfl ?_
            refine J.aload_n 2 dX6_plain_64 rfl ?_
            refine fgX6_87 rfl hT dX6_plain_65 ?_
            refine uX6_113 rfl htr hT dX6_plain_68 (by omega) (Nat.le_of_ble_eq_true rfl) hw ?_
            clear hw
            intro V68 hw
            refine J.iconst (v := (0 : Int32)) dX6_plain_71 (by decide) ?_
            exact J.zret rfl rfl dX6_plain_72 ⟨_, rfl, _, rfl, hw⟩
      · obtain ⟨-, hw⟩ := hw
        specialize hw c38
        refine J.iconst (v := (0 : Int32)) dX6_plain_41 (by decide) ?_
        exact J.zret rfl rfl dX6_plain_42 ⟨_, rfl, _, rfl, hw⟩
    · obtain ⟨-, hw⟩ := hw
      specialize hw c20
      refine J.aload_n 0 dX6_plain_23 rfl ?_
      refine fgX6_227 rfl hT dX6_plain_24 ?_
      exact J.zret rfl (jz_nar hw.1) dX6_plain_27 ⟨_, rfl, _, rfl, hw.2⟩
  · obtain ⟨-, hw⟩ := hw
    specialize hw c6
    refine J.aload_n 0 dX6_plain_9 rfl ?_
    refine fgX6_221 rfl hT dX6_plain_10 ?_
    exact J.zret rfl (jz_nar hw.1) dX6_plain_13 ⟨_, rfl, _, rfl, hw.2⟩
theorem fgX6_179 {G : jG} {l : Launch} {M : jM} {d c n pc : Nat} {lv : List (Nat × Value)} {st : List Value} {sh : List jH} {V : Nat → Nat → Int32} {R : Nat → Nat → Option Nat} {post : Option Value → List jC → Prop} {xp : String → List jC → Prop} {t : Nat} (hM : M.1.cls = RX6) (hT : jReg shX6 sh t) (hd : decode M.2.1 pc = .ok (.getfield 179, 3)) (kk : J G l M d c n (pc + 3) lv (.int (V t 13) :: st) (mk sh V R) post xp) : J G l M d c n pc lv (.ref t :: st) (mk sh V R) post xp := JV.getf (C := RX6) (T0 := TX6) (N := 28) 13 hd hT.1 (hT.at 0 rfl) rfl in_X6 (by decide) (by rw [hM]; exact q2141) rfl rfl kk
theorem fpX6_179 {G : jG} {l : Launch} {M : jM} {d c n pc : Nat} {lv : List (Nat × Value)} {st : List Value} {sh : List jH} {V : Nat → Nat → Int32} {R : Nat → Nat → Option Nat} {post : Option Value → List jC → Prop} {xp : String → List jC → Prop} {t : Nat} (hM : M.1.cls = RX6) (hT : jReg shX6 sh t) {x9 : Int32} (hd : decode M.2.1 pc = .ok (.putfield 179, 3)) (kk : J G l M d c n (pc + 3) lv st (mk sh (vset V t 13 x9) R) post xp) : J G l M d c n pc lv (.int x9 :: .ref t :: st) (mk sh V R) post xp := JV.puti (C := RX6) (T0 := TX6) (N := 28) (o := 0) 13 hd hT.1 (hT.at 0 rfl) rfl in_X6 tyX6 tyX6_ok nmX6 (by decide) (by rw [hM]; exact q2141) rfl rfl (ji_put x9) rfl kk
theorem uX6_110 {G : jG} {l : Launch} {M : jM} {d c n pc : Nat} {lv : List (Nat × Value)} {rest : List Value} {post : Option Value → List jC → Prop} {xp : String → List jC → Prop} (hM : M.1.cls = RX6) (htr : l.stackTraces = false) {sh : List jH} {V : Nat → Nat → Int32} {R : Nat → Nat → Option Nat} {t : Nat} (hT : jReg shX6 sh t) {Q : Int32 → (Nat → Nat → Int32) → Prop} (hd : decode M.2.1 pc = .ok (.invokevirtual 110, 3)) (hdd : 2 + 1 ≤ d) (hw8 : (rest.map fun v => v.category).sum ≤ 8) (hw : wX6_here t V Q) (kk : ∀ r V', Q r V' → J G l M d c n (pc + 3) lv (.int r :: rest) (mk sh V' R) post xp) : J G l M d c n pc lv (.ref t :: rest) (mk sh V R) post xp := by
  exact J.callV (As := []) (hcw := by rw [hM]; exact lw_V q2274 q2276 qs78 q152 q2277) (mX6_here htr hT hw) hd rfl ⟨5, _, _, mk_at (hT.at 0 rfl), rfl, rfl, fun _ => rfl⟩ ⟨rfl, by decide, by decide, by show _ = some 0; decide +kernel⟩ hw8 ⟨hdd, by decide⟩ jcc0 (fun r9 g9 h9 => by obtain ⟨V9, rfl, r, rfl, h⟩ := h9; exact kk r V9 h) jNo.x
theorem uX6_235 {G : jG} {l : Launch} {M : jM} {d c n pc : Nat} {lv : List (Nat × Value)} {rest : List Value} {post : Option Value → List jC → Prop} {xp : String → List jC → Prop} (hM : M.1.cls = RX6) (htr : l.stackTraces = false) {sh : List jH} {V : Nat → Nat → Int32} {R : Nat → Nat → Option Nat} {t : Nat} (hT : jReg shX6 sh t) {Q : Int32 → (Nat → Nat → Int32) → Prop} (hd : decode M.2.1 pc = .ok (.invokevirtual 235, 3)) (hdd : 7 + 1 ≤ d) (hw8 : (rest.map fun v => v.category).sum ≤ 8) (hw : wX6_plain t sh R V Q) (kk : ∀ r V', Q r V' → J G l M d c n (pc + 3) lv (.int r :: rest) (mk sh V' R) post xp) : J G l M d c n pc lv (.ref t :: rest) (mk sh V R) post xp := by
  exact J.callV (As := []) (hcw := by rw [hM]; exact lw_V q2296 q2298 qs83 q152 q2299) (mX6_plain htr (Nat.le_refl _) hT hw) hd rfl ⟨5, _, _, mk_at (hT.at 0 rfl), rfl, rfl, fun _ => rfl⟩ ⟨rfl, by decide, by decide, by show _ = some 0; decide +kernel⟩ hw8 ⟨hdd, by decide⟩ jcc0 (fun r9 g9 h9 => by obtain ⟨V9, rfl, r, rfl, h⟩ := h9; exact kk r V9 h) jNo.x
theorem uX6_239_X6_atom {G : jG} {l : Launch} {M : jM} {d c n pc : Nat} {lv : List (Nat × Value)} {rest : List Value} {post : Option Value → List jC → Prop} {xp : String → List jC → Prop} (hM : M.1.cls = RX6) (htr : l.stackTraces = false) {sh : List jH} {V : Nat → Nat → Int32} {R : Nat → Nat → Option Nat} {t : Nat} (hT : jReg shX6 sh t) {REC : (Nat → Nat → Int32) → (Int32 → (Nat → Nat → Int32) → Prop) → Prop} {dr : Nat} (hdr : dr + 1 ≤ d) (hREC : ∀ {V : Nat → Nat → Int32} {Q : Int32 → (Nat → Nat → Int32) → Prop}, REC V Q → JM G l MX6_atom dr 0 0 [.ref t] (mk sh V R) (jWr sh R Q) jNo) {Q : Int32 → (Nat → Nat → Int32) → Prop} (hd : decode M.2.1 pc = .ok (.invokevirtual 239, 3))  (hw8 : (rest.map fun v => v.category).sum ≤ 8) (hw : REC V Q) (kk : ∀ r V', Q r V' → J G l M d c n (pc + 3) lv (.int r :: rest) (mk sh V' R) post xp) : J G l M d c n pc lv (.ref t :: rest) (mk sh V R) post xp := by
  exact J.callV (As := []) (hcw := by rw [hM]; exact lw_V q2287 q2289 qs81 q152 q2290) (hREC hw) hd rfl ⟨5, _, _, mk_at (hT.at 0 rfl), rfl, rfl, fun _ => rfl⟩ ⟨rfl, by decide, by decide, by show _ = some 0; decide +kernel⟩ hw8 ⟨hdr, by decide⟩ jcc0 (fun r9 g9 h9 => by obtain ⟨V9, rfl, r, rfl, h⟩ := h9; exact kk r V9 h) jNo.x
theorem uX6_242_X6_atom {G : jG} {l : Launch} {M : jM} {d c n pc : Nat} {lv : List (Nat × Value)} {rest : List Value} {post : Option Value → List jC → Prop} {xp : String → List jC → Prop} (hM : M.1.cls = RX6) (htr : l.stackTraces = false) {sh : List jH} {V : Nat → Nat → Int32} {R : Nat → Nat → Option Nat} {t : Nat} (hT : jReg shX6 sh t) {REC : (Nat → Nat → Int32) → (Int32 → (Nat → Nat → Int32) → Prop) → Prop} {dr : Nat} (hdr : dr + 3 ≤ d) (hREC : ∀ {V : Nat → Nat → Int32} {Q : Int32 → (Nat → Nat → Int32) → Prop}, REC V Q → JM G l MX6_atom dr 0 0 [.ref t] (mk sh V R) (jWr sh R Q) jNo) {Q : Int32 → (Nat → Nat → Int32) → Prop} (hd : decode M.2.1 pc = .ok (.invokevirtual 242, 3)) (hdd : 6 + 1 ≤ d) (hw8 : (rest.map fun v => v.category).sum ≤ 8) (hw : wX6_some t sh R REC V Q) (kk : ∀ r V', Q r V' → J G l M d c n (pc + 3) lv (.int r :: rest) (mk sh V' R) post xp) : J G l M d c n pc lv (.ref t :: rest) (mk sh V R) post xp := by
  exact J.callV (As := []) (hcw := by rw [hM]; exact lw_V q2279 q2281 qs79 q152 q2282) (mX6_some (d := d - 1) htr (by omega) hT (dr := dr) (by omega) hREC hw) hd rfl ⟨5, _, _, mk_at (hT.at 0 rfl), rfl, rfl, fun _ => rfl⟩ ⟨rfl, by decide, by decide, by show _ = some 0; decide +kernel⟩ hw8 ⟨by omega, by decide⟩ jcc0 (fun r9 g9 h9 => by obtain ⟨V9, rfl, r, rfl, h⟩ := h9; exact kk r V9 h) jNo.x
-- VisitingHoursModel.atom()Z
def wX6_atom_138 (t : Nat) (sh : List jH) (R : Nat → Nat → Option Nat) (REC : (Nat → Nat → Int32) → (Int32 → (Nat → Nat → Int32) → Prop) → Prop) (Q : Int32 → (Nat → Nat → Int32) → Prop) (V : Nat → Nat → Int32) (x3 : Int32) : Prop :=
  (∀ y145 : Int32, y145 = ((V t 13) - (1 : Int32)) → (jz x3 ∧ Q x3 (vset V t 13 y145)))
theorem rX6_atom_138 {G : jG} {l : Launch} {d : Nat} {c n : Nat} (htr : l.stackTraces = false) (hdd : 8 ≤ d) {sh : List jH} {R : Nat → Nat → Option Nat} {t : Nat} (hT : jReg shX6 sh t) {REC : (Nat → Nat → Int32) → (Int32 → (Nat → Nat → Int32) → Prop) → Prop} {dr : Nat} (hdr : dr + 4 ≤ d) (hREC : ∀ {V : Nat → Nat → Int32} {Q : Int32 → (Nat → Nat → Int32) → Prop}, REC V Q → JM G l MX6_atom dr 0 0 [.ref t] (mk sh V R) (jWr sh R Q) jNo) {Q : Int32 → (Nat → Nat → Int32) → Prop} {V : Nat → Nat → Int32} {x3 : Int32} (hw : wX6_atom_138 t sh R REC Q V x3) : J G l MX6_atom d c n 138 [(0, .ref t), (3, .int x3)] [] (mk sh V R) (jWr sh R Q) jNo := by
  unfold wX6_atom_138 at hw
  refine J.aload_n 0 dX6_atom_138 rfl ?_
  refine J.dup dX6_atom_139 rfl ?_
  refine fgX6_179 rfl hT dX6_atom_140 ?_
  refine J.iconst (v := (1 : Int32)) dX6_atom_143 (by decide) ?_
  refine J.isub dX6_atom_144 ?_
  refine J.nm hw (fun y145 hw => ?_)
  refine fpX6_179 rfl hT dX6_atom_145 ?_
  refine J.iload_n 1 dX6_atom_148 rfl ?_
  exact J.zret rfl (jz_nar hw.1) dX6_atom_149 ⟨_, rfl, _, rfl, hw.2⟩
def wX6_atom_128 (t : Nat) (sh : List jH) (R : Nat → Nat → Option Nat) (REC : (Nat → Nat → Int32) → (Int32 → (Nat → Nat → Int32) → Prop) → Prop) (Q : Int32 → (Nat → Nat → Int32) → Prop) (V : Nat → Nat → Int32) (x3 : Int32) : Prop :=
  (∀ y135 : Int32, y135 = ((V t 11) + (1 : Int32)) → wX6_atom_138 t sh R REC Q (vset V t 11 y135) x3)
theorem rX6_atom_128 {G : jG} {l : Launch} {d : Nat} {c n : Nat} (htr : l.stackTraces = false) (hdd : 8 ≤ d) {sh : List jH} {R : Nat → Nat → Option Nat} {t : Nat} (hT : jReg shX6 sh t) {REC : (Nat → Nat → Int32) → (Int32 → (Nat → Nat → Int32) → Prop) → Prop} {dr : Nat} (hdr : dr + 4 ≤ d) (hREC : ∀ {V : Nat → Nat → Int32} {Q : Int32 → (Nat → Nat → Int32) → Prop}, REC V Q → JM G l MX6_atom dr 0 0 [.ref t] (mk sh V R) (jWr sh R Q) jNo) {Q : Int32 → (Nat → Nat → Int32) → Prop} {V : Nat → Nat → Int32} {x3 : Int32} (hw : wX6_atom_128 t sh R REC Q V x3) : J G l MX6_atom d c n 128 [(0, .ref t), (3, .int x3)] [] (mk sh V R) (jWr sh R Q) jNo := by
  unfold wX6_atom_128 at hw
  refine J.aload_n 0 dX6_atom_128 rfl ?_
  refine J.dup dX6_atom_129 rfl ?_
  refine fgX6_87 rfl hT dX6_atom_130 ?_
  refine J.iconst (v := (1 : Int32)) dX6_atom_133 (by decide) ?_
  refine J.iadd dX6_atom_134 ?_
  refine J.nm hw (fun y135 hw => ?_)
  refine fpX6_87 rfl hT dX6_atom_135 ?_
  exact (rX6_atom_138 htr hdd hT hdr hREC hw)
def wX6_atom_84 (t : Nat) (sh : List jH) (R : Nat → Nat → Option Nat) (REC : (Nat → Nat → Int32) → (Int32 → (Nat → Nat → Int32) → Prop) → Prop) (Q : Int32 → (Nat → Nat → Int32) → Prop) (V : Nat → Nat → Int32) (s0 : Int32) : Prop :=
  wX6_atom_138 t sh R REC Q V s0
theorem rX6_atom_84 {G : jG} {l : Launch} {d : Nat} {c n : Nat} (htr : l.stackTraces = false) (hdd : 8 ≤ d) {sh : List jH} {R : Nat → Nat → Option Nat} {t : Nat} (hT : jReg shX6 sh t) {REC : (Nat → Nat → Int32) → (Int32 → (Nat → Nat → Int32) → Prop) → Prop} {dr : Nat} (hdr : dr + 4 ≤ d) (hREC : ∀ {V : Nat → Nat → Int32} {Q : Int32 → (Nat → Nat → Int32) → Prop}, REC V Q → JM G l MX6_atom dr 0 0 [.ref t] (mk sh V R) (jWr sh R Q) jNo) {Q : Int32 → (Nat → Nat → Int32) → Prop} {V : Nat → Nat → Int32} {s0 : Int32} (hw : wX6_atom_84 t sh R REC Q V s0) : J G l MX6_atom d c n 84 [(0, .ref t)] [.int s0] (mk sh V R) (jWr sh R Q) jNo := by
  unfold wX6_atom_84 at hw
  refine J.istore_n (lv' := [(3, .int s0), (0, .ref t)]) dX6_atom_84 (by decide) rfl ?_
  refine J.goto 138 dX6_atom_85 (by decide) ?_
  exact J.pick [1, 0] rfl (rX6_atom_138 htr hdd hT hdr hREC hw)
def wX6_atom_40 (t : Nat) (sh : List jH) (R : Nat → Nat → Option Nat) (REC : (Nat → Nat → Int32) → (Int32 → (Nat → Nat → Int32) → Prop) → Prop) (Q : Int32 → (Nat → Nat → Int32) → Prop) (V : Nat → Nat → Int32) (x1 : Int32) (x2 : Int32) : Prop :=
  ((¬ (V t 13) = (6 : Int32) → (∀ y63 : Int32, y63 = ((V t 13) + (1 : Int32)) → ((x2 = 0 → (∀ y95 : Int32, y95 = (((vset V t 13 y63) t 11) + (1 : Int32)) → (wX6_some t sh R REC (vset (vset V t 13 y63) t 11 y95) (fun r99 V99 => ((¬ (V99 t 12) = (-1 : Int32) → wX6_atom_128 t sh R REC Q V99 r99) ∧ ((V99 t 12) = (-1 : Int32) → (wX6_isSign t V99 (41 : Int32) (fun r114 V114 => ((¬ r114 = 0 → wX6_atom_128 t sh R REC Q V114 r99) ∧ (r114 = 0 → (wX6_wrong t V114 (V114 t 11) (fun V125 => wX6_atom_128 t sh R REC Q V125 r99)))))))))))) ∧ (¬ x2 = 0 → (REC (vset V t 13 y63) (fun r73 V73 => ((¬ r73 = 0 → wX6_atom_84 t sh R REC Q V73 (0 : Int32)) ∧ (r73 = 0 → wX6_atom_84 t sh R REC Q V73 (1 : Int32))))))))) ∧ ((V t 13) = (6 : Int32) → (wX6_wrong t V x1 (fun V51 => Q (0 : Int32) V51))))
theorem rX6_atom_40 {G : jG} {l : Launch} {d : Nat} {c n : Nat} (htr : l.stackTraces = false) (hdd : 8 ≤ d) {sh : List jH} {R : Nat → Nat → Option Nat} {t : Nat} (hT : jReg shX6 sh t) {REC : (Nat → Nat → Int32) → (Int32 → (Nat → Nat → Int32) → Prop) → Prop} {dr : Nat} (hdr : dr + 4 ≤ d) (hREC : ∀ {V : Nat → Nat → Int32} {Q : Int32 → (Nat → Nat → Int32) → Prop}, REC V Q → JM G l MX6_atom dr 0 0 [.ref t] (mk sh V R) (jWr sh R Q) jNo) {Q : Int32 → (Nat → Nat → Int32) → Prop} {V : Nat → Nat → Int32} {x1 : Int32} {x2 : Int32} (hw : wX6_atom_40 t sh R REC Q V x1 x2) : J G l MX6_atom d c n 40 [(0, .ref t), (1, .int x1), (2, .int x2)] [] (mk sh V R) (jWr sh R Q) jNo := by
  unfold wX6_atom_40 at hw
  refine J.aload_n 0 dX6_atom_40 rfl ?_
  refine fgX6_179 rfl hT dX6_atom_41 ?_
  refine J.bipush (v := (6 : Int32)) dX6_atom_44 (by decide) ?_
  refine J.icmp_ne 56 dX6_atom_46 (by decide) ⟨fun c46 => ?_, fun c46 => ?_⟩
  · obtain ⟨hw, -⟩ := hw
    specialize hw c46
    refine J.aload_n 0 dX6_atom_56 rfl ?_
    refine J.dup dX6_atom_57 rfl ?_
    refine fgX6_179 rfl hT dX6_atom_58 ?_
    refine J.iconst (v := (1 : Int32)) dX6_atom_61 (by decide) ?_
    refine J.iadd dX6_atom_62 ?_
    refine J.nm hw (fun y63 hw => ?_)
    refine fpX6_179 rfl hT dX6_atom_63 ?_
    refine J.iconst (v := (0 : Int32)) dX6_atom_66 (by decide) ?_
    refine J.istore_n (lv' := [(3, .int (0 : Int32)), (0, .ref t), (1, .int x1), (2, .int x2)]) dX6_atom_67 (by decide) rfl ?_
    refine J.iload_n 3 dX6_atom_68 rfl ?_
    refine J.if_eq 88 dX6_atom_69 (by decide) ⟨fun c69 => ?_, fun c69 => ?_⟩
    · obtain ⟨hw, -⟩ := hw
      specialize hw c69
      refine J.aload_n 1 dX6_atom_88 rfl ?_
      refine J.dup dX6_atom_89 rfl ?_
      refine fgX6_87 rfl hT dX6_atom_90 ?_
      refine J.iconst (v := (1 : Int32)) dX6_atom_93 (by decide) ?_
      refine J.iadd dX6_atom_94 ?_
      refine J.nm hw (fun y95 hw => ?_)
      refine fpX6_87 rfl hT dX6_atom_95 ?_
      refine J.aload_n 1 dX6_atom_98 rfl ?_
      refine uX6_242_X6_atom rfl htr hT (by omega) hREC dX6_atom_99 (by omega) (Nat.le_of_ble_eq_true rfl) hw ?_
      clear hw
      intro r99 V99 hw
      refine J.istore_n (lv' := [(3, .int r99), (0, .ref t), (1, .int x1), (2, .int x2)]) dX6_atom_102 (by decide) rfl ?_
      refine J.aload_n 1 dX6_atom_103 rfl ?_
      refine fgX6_25 rfl hT dX6_atom_104 ?_
      refine J.iconst (v := (-1 : Int32)) dX6_atom_107 (by decide) ?_
      refine J.icmp_ne 128 dX6_atom_108 (by decide) ⟨fun c108 => ?_, fun c108 => ?_⟩
      · obtain ⟨hw, -⟩ := hw
        specialize hw c108
        exact J.pick [1, 0] rfl (rX6_atom_128 htr hdd hT hdr hREC hw)
      · obtain ⟨-, hw⟩ := hw
        specialize hw c108
        refine J.aload_n 1 dX6_atom_111 rfl ?_
        refine J.bipush (v := (41 : Int32)) dX6_atom_112 (by decide) ?_
        refine uX6_188 rfl htr hT dX6_atom_114 (by omega) (Nat.le_of_ble_eq_true rfl) hw ?_
        clear hw
        intro r114 V114 hw
        refine J.if_ne 128 dX6_atom_117 (by decide) ⟨fun c117 => ?_, fun c117 => ?_⟩
        · obtain ⟨hw, -⟩ := hw
          specialize hw c117
          exact J.pick [1, 0] rfl (rX6_atom_128 htr hdd hT hdr hREC hw)
        · obtain ⟨-, hw⟩ := hw
          specialize hw c117
          refine J.aload_n 1 dX6_atom_120 rfl ?_
          refine J.aload_n 1 dX6_atom_121 rfl ?_
          refine fgX6_87 rfl hT dX6_atom_122 ?_
          refine uX6_113 rfl htr hT dX6_atom_125 (by omega) (Nat.le_of_ble_eq_true rfl) hw ?_
          clear hw
          intro V125 hw
          exact J.pick [1, 0] rfl (rX6_atom_128 htr hdd hT hdr hREC hw)
    · obtain ⟨-, hw⟩ := hw
      specialize hw c69
      refine J.aload_n 1 dX6_atom_72 rfl ?_
      refine uX6_239_X6_atom rfl htr hT (by omega) hREC dX6_atom_73 (Nat.le_of_ble_eq_true rfl) hw ?_
      clear hw
      intro r73 V73 hw
      refine J.if_ne 83 dX6_atom_76 (by decide) ⟨fun c76 => ?_, fun c76 => ?_⟩
      · obtain ⟨hw, -⟩ := hw
        specialize hw c76
        refine J.iconst (v := (0 : Int32)) dX6_atom_83 (by decide) ?_
        exact J.pick [1] rfl (rX6_atom_84 htr hdd hT hdr hREC hw)
      · obtain ⟨-, hw⟩ := hw
        specialize hw c76
        refine J.iconst (v := (1 : Int32)) dX6_atom_79 (by decide) ?_
        refine J.goto 84 dX6_atom_80 (by decide) ?_
        exact J.pick [1] rfl (rX6_atom_84 htr hdd hT hdr hREC hw)
  · obtain ⟨-, hw⟩ := hw
    specialize hw c46
    refine J.aload_n 0 dX6_atom_49 rfl ?_
    refine J.iload_n 1 dX6_atom_50 rfl ?_
    refine uX6_113 rfl htr hT dX6_atom_51 (by omega) (Nat.le_of_ble_eq_true rfl) hw ?_
    clear hw
    intro V51 hw
    refine J.iconst (v := (0 : Int32)) dX6_atom_54 (by decide) ?_
    exact J.zret rfl rfl dX6_atom_55 ⟨_, rfl, _, rfl, hw⟩
def wX6_atom_B (t : Nat) (sh : List jH) (R : Nat → Nat → Option Nat) (REC : (Nat → Nat → Int32) → (Int32 → (Nat → Nat → Int32) → Prop) → Prop) (V : Nat → Nat → Int32) (Q : Int32 → (Nat → Nat → Int32) → Prop) : Prop :=
  (((V t 12) = (-1 : Int32) → (wX6_here t V (fun r11 V11 => (wX6_has t sh R V11 28 (fun r18 V18 => ((¬ r18 = 0 → wX6_atom_40 t sh R REC Q V18 r11 r18) ∧ (r18 = 0 → (wX6_isSign t V18 (40 : Int32) (fun r29 V29 => ((¬ r29 = 0 → wX6_atom_40 t sh R REC Q V29 r11 r18) ∧ (r29 = 0 → (wX6_plain t sh R V29 (fun r36 V36 => (jz r36 ∧ Q r36 V36)))))))))))))) ∧ (¬ (V t 12) = (-1 : Int32) → Q (0 : Int32) V))
def wX6_atom (t : Nat) (sh : List jH) (R : Nat → Nat → Option Nat) : Nat → (Nat → Nat → Int32) → (Int32 → (Nat → Nat → Int32) → Prop) → Prop
  | 0, _, _ => False
  | f + 1, V, Q => wX6_atom_B t sh R (wX6_atom t sh R f) V Q
theorem mX6_atom {G : jG} {l : Launch} (htr : l.stackTraces = false) {sh : List jH} {R : Nat → Nat → Option Nat} {t : Nat} (hT : jReg shX6 sh t) : ∀ (f : Nat) {V : Nat → Nat → Int32} {Q : Int32 → (Nat → Nat → Int32) → Prop}, wX6_atom t sh R f V Q → JM G l MX6_atom (8 + 4 * f) 0 0 [.ref t] (mk sh V R) (jWr sh R Q) jNo := by
  intro f
  induction f with
  | zero =>
    intro V Q hw
    rw [wX6_atom] at hw
    exact hw.elim
  | succ f ih =>
    intro V Q hw
    rw [wX6_atom] at hw
    have hdr : (8 + 4 * f) + 4 ≤ 8 + 4 * (f + 1) := by omega
    have hREC := @ih
    have hdd : 8 ≤ 8 + 4 * (f + 1) := by omega
    refine JM.intro (by decide) rfl htr (Nat.le_of_ble_eq_true rfl) ?_
    show J G l MX6_atom (8 + 4 * (f + 1)) 0 0 0 [(0, .ref t)] [] (mk sh V R) _ _
    unfold wX6_atom_B at hw
    refine J.aload_n 0 dX6_atom_0 rfl ?_
    refine fgX6_25 rfl hT dX6_atom_1 ?_
    refine J.iconst (v := (-1 : Int32)) dX6_atom_4 (by decide) ?_
    refine J.icmp_eq 10 dX6_atom_5 (by decide) ⟨fun c5 => ?_, fun c5 => ?_⟩
    · obtain ⟨hw, -⟩ := hw
      specialize hw c5
      refine J.aload_n 0 dX6_atom_10 rfl ?_
      refine uX6_110 rfl htr hT dX6_atom_11 (by omega) (Nat.le_of_ble_eq_true rfl) hw ?_
      clear hw
      intro r11 V11 hw
      refine J.istore_n (lv' := [(1, .int r11), (0, .ref t)]) dX6_atom_14 (by decide) rfl ?_
      refine J.aload_n 1 dX6_atom_15 rfl ?_
      refine J.ldcS dX6_atom_16 jl_2291 (by decide) ?_
      refine uX6_117 rfl htr hT dX6_atom_18 (by omega) (Nat.le_of_ble_eq_true rfl) hw ?_
      clear hw
      intro r18 V18 hw
      refine J.istore_n (lv' := [(2, .int r18), (1, .int r11), (0, .ref t)]) dX6_atom_21 (by decide) rfl ?_
      refine J.iload_n 0 dX6_atom_22 rfl ?_
      refine J.if_ne 40 dX6_atom_23 (by decide) ⟨fun c23 => ?_, fun c23 => ?_⟩
      · obtain ⟨hw, -⟩ := hw
        specialize hw c23
        exact J.pick [2, 1, 0] rfl (rX6_atom_40 htr hdd hT hdr hREC hw)
      · obtain ⟨-, hw⟩ := hw
        specialize hw c23
        refine J.aload_n 2 dX6_atom_26 rfl ?_
        refine J.bipush (v := (40 : Int32)) dX6_atom_27 (by decide) ?_
        refine uX6_188 rfl htr hT dX6_atom_29 (by omega) (Nat.le_of_ble_eq_true rfl) hw ?_
        clear hw
        intro r29 V29 hw
        refine J.if_ne 40 dX6_atom_32 (by decide) ⟨fun c32 => ?_, fun c32 => ?_⟩
        · obtain ⟨hw, -⟩ := hw
          specialize hw c32
          exact J.pick [2, 1, 0] rfl (rX6_atom_40 htr hdd hT hdr hREC hw)
        · obtain ⟨-, hw⟩ := hw
          specialize hw c32
          refine J.aload_n 2 dX6_atom_35 rfl ?_
          refine uX6_235 rfl htr hT dX6_atom_36 (by omega) (Nat.le_of_ble_eq_true rfl) hw ?_
          clear hw
          intro r36 V36 hw
          exact J.zret rfl (jz_nar hw.1) dX6_atom_39 ⟨_, rfl, _, rfl, hw.2⟩
    · obtain ⟨-, hw⟩ := hw
      specialize hw c5
      refine J.iconst (v := (0 : Int32)) dX6_atom_8 (by decide) ?_
      exact J.zret rfl rfl dX6_atom_9 ⟨_, rfl, _, rfl, hw⟩
theorem fgX6_260 {G : jG} {l : Launch} {M : jM} {d c n pc : Nat} {lv : List (Nat × Value)} {st : List Value} {sh : List jH} {V : Nat → Nat → Int32} {R : Nat → Nat → Option Nat} {post : Option Value → List jC → Prop} {xp : String → List jC → Prop} {t : Nat} (hM : M.1.cls = RX6) (hT : jReg shX6 sh t) (hd : decode M.2.1 pc = .ok (.getfield 260, 3)) (kk : J G l M d c n (pc + 3) lv (.int (V t 18) :: st) (mk sh V R) post xp) : J G l M d c n pc lv (.ref t :: st) (mk sh V R) post xp := JV.getf (C := RX6) (T0 := TX6) (N := 28) 18 hd hT.1 (hT.at 0 rfl) rfl in_X6 (by decide) (by rw [hM]; exact q2146) rfl rfl kk
theorem fpX6_260 {G : jG} {l : Launch} {M : jM} {d c n pc : Nat} {lv : List (Nat × Value)} {st : List Value} {sh : List jH} {V : Nat → Nat → Int32} {R : Nat → Nat → Option Nat} {post : Option Value → List jC → Prop} {xp : String → List jC → Prop} {t : Nat} (hM : M.1.cls = RX6) (hT : jReg shX6 sh t) {x9 : Int32} (hd : decode M.2.1 pc = .ok (.putfield 260, 3)) (hz : jz x9) (kk : J G l M d c n (pc + 3) lv st (mk sh (vset V t 18 x9) R) post xp) : J G l M d c n pc lv (.int x9 :: .ref t :: st) (mk sh V R) post xp := JV.puti (C := RX6) (T0 := TX6) (N := 28) (o := 0) 18 hd hT.1 (hT.at 0 rfl) rfl in_X6 tyX6 tyX6_ok nmX6 (by decide) (by rw [hM]; exact q2146) rfl rfl (jz_put hz) rfl kk
theorem fgX6_263 {G : jG} {l : Launch} {M : jM} {d c n pc : Nat} {lv : List (Nat × Value)} {st : List Value} {sh : List jH} {V : Nat → Nat → Int32} {R : Nat → Nat → Option Nat} {post : Option Value → List jC → Prop} {xp : String → List jC → Prop} {t : Nat} (hM : M.1.cls = RX6) (hT : jReg shX6 sh t) (hd : decode M.2.1 pc = .ok (.getfield 263, 3)) (kk : J G l M d c n (pc + 3) lv (.int (V t 19) :: st) (mk sh V R) post xp) : J G l M d c n pc lv (.ref t :: st) (mk sh V R) post xp := JV.getf (C := RX6) (T0 := TX6) (N := 28) 19 hd hT.1 (hT.at 0 rfl) rfl in_X6 (by decide) (by rw [hM]; exact q2147) rfl rfl kk
theorem fpX6_263 {G : jG} {l : Launch} {M : jM} {d c n pc : Nat} {lv : List (Nat × Value)} {st : List Value} {sh : List jH} {V : Nat → Nat → Int32} {R : Nat → Nat → Option Nat} {post : Option Value → List jC → Prop} {xp : String → List jC → Prop} {t : Nat} (hM : M.1.cls = RX6) (hT : jReg shX6 sh t) {x9 : Int32} (hd : decode M.2.1 pc = .ok (.putfield 263, 3)) (hz : jz x9) (kk : J G l M d c n (pc + 3) lv st (mk sh (vset V t 19 x9) R) post xp) : J G l M d c n pc lv (.int x9 :: .ref t :: st) (mk sh V R) post xp := JV.puti (C := RX6) (T0 := TX6) (N := 28) (o := 0) 19 hd hT.1 (hT.at 0 rfl) rfl in_X6 tyX6 tyX6_ok nmX6 (by decide) (by rw [hM]; exact q2147) rfl rfl (jz_put hz) rfl kk
theorem fgX6_266 {G : jG} {l : Launch} {M : jM} {d c n pc : Nat} {lv : List (Nat × Value)} {st : List Value} {sh : List jH} {V : Nat → Nat → Int32} {R : Nat → Nat → Option Nat} {post : Option Value → List jC → Prop} {xp : String → List jC → Prop} {t : Nat} (hM : M.1.cls = RX6) (hT : jReg shX6 sh t) (hd : decode M.2.1 pc = .ok (.getfield 266, 3)) (kk : J G l M d c n (pc + 3) lv (.int (V t 17) :: st) (mk sh V R) post xp) : J G l M d c n pc lv (.ref t :: st) (mk sh V R) post xp := JV.getf (C := RX6) (T0 := TX6) (N := 28) 17 hd hT.1 (hT.at 0 rfl) rfl in_X6 (by decide) (by rw [hM]; exact q2145) rfl rfl kk
theorem fpX6_266 {G : jG} {l : Launch} {M : jM} {d c n pc : Nat} {lv : List (Nat × Value)} {st : List Value} {sh : List jH} {V : Nat → Nat → Int32} {R : Nat → Nat → Option Nat} {post : Option Value → List jC → Prop} {xp : String → List jC → Prop} {t : Nat} (hM : M.1.cls = RX6) (hT : jReg shX6 sh t) {x9 : Int32} (hd : decode M.2.1 pc = .ok (.putfield 266, 3)) (kk : J G l M d c n (pc + 3) lv st (mk sh (vset V t 17 x9) R) post xp) : J G l M d c n pc lv (.int x9 :: .ref t :: st) (mk sh V R) post xp := JV.puti (C := RX6) (T0 := TX6) (N := 28) (o := 0) 17 hd hT.1 (hT.at 0 rfl) rfl in_X6 tyX6 tyX6_ok nmX6 (by decide) (by rw [hM]; exact q2145) rfl rfl (ji_put x9) rfl kk
abbrev MX6_lawLine : jM := (yX6_lawLine, cX6_lawLine, 4, none, [])
theorem uX6_242_X6_lawLine {G : jG} {l : Launch} {M : jM} {d c n pc : Nat} {lv : List (Nat × Value)} {rest : List Value} {post : Option Value → List jC → Prop} {xp : String → List jC → Prop} (hM : M.1.cls = RX6) (htr : l.stackTraces = false) {sh : List jH} {V : Nat → Nat → Int32} {R : Nat → Nat → Option Nat} {t : Nat} (hT : jReg shX6 sh t) {f9 : Nat} (hdr : 8 + 4 * f9 + 3 ≤ d) (hREC : ∀ {V : Nat → Nat → Int32} {Q : Int32 → (Nat → Nat → Int32) → Prop}, wX6_atom t sh R f9 V Q → JM G l MX6_atom (8 + 4 * f9) 0 0 [.ref t] (mk sh V R) (jWr sh R Q) jNo) {Q : Int32 → (Nat → Nat → Int32) → Prop} (hd : decode M.2.1 pc = .ok (.invokevirtual 242, 3)) (hdd : 6 + 1 ≤ d) (hw8 : (rest.map fun v => v.category).sum ≤ 8) (hw : wX6_some t sh R (wX6_atom t sh R f9) V Q) (kk : ∀ r V', Q r V' → J G l M d c n (pc + 3) lv (.int r :: rest) (mk sh V' R) post xp) : J G l M d c n pc lv (.ref t :: rest) (mk sh V R) post xp := by
  exact J.callV (As := []) (hcw := by rw [hM]; exact lw_V q2279 q2281 qs79 q152 q2282) (mX6_some (d := d - 1) htr (by omega) hT (dr := 8 + 4 * f9) (by omega) hREC hw) hd rfl ⟨5, _, _, mk_at (hT.at 0 rfl), rfl, rfl, fun _ => rfl⟩ ⟨rfl, by decide, by decide, by show _ = some 0; decide +kernel⟩ hw8 ⟨by omega, by decide⟩ jcc0 (fun r9 g9 h9 => by obtain ⟨V9, rfl, r, rfl, h⟩ := h9; exact kk r V9 h) jNo.x
-- VisitingHoursModel.lawLine()V
def wX6_lawLine_185 (t : Nat) (sh : List jH) (R : Nat → Nat → Option Nat) (Q : (Nat → Nat → Int32) → Prop) (V : Nat → Nat → Int32) (s1 : Int32) (s2 : Int32) : Prop :=
  (∀ y186 : Int32, y186 = (s1 + s2) → Q (vset V t 17 y186))
theorem rX6_lawLine_185 {G : jG} {l : Launch} {d : Nat} {c n : Nat} (htr : l.stackTraces = false) (hdd : 67 ≤ d) {sh : List jH} {R : Nat → Nat → Option Nat} {t : Nat} (hT : jReg shX6 sh t) {Q : (Nat → Nat → Int32) → Prop} {V : Nat → Nat → Int32} {s1 : Int32} {s2 : Int32} (hw : wX6_lawLine_185 t sh R Q V s1 s2) : J G l MX6_lawLine d c n 185 [] [.int s2, .int s1, .ref t] (mk sh V R) (jWv sh R Q) jNo := by
  unfold wX6_lawLine_185 at hw
  refine J.iadd dX6_lawLine_185 ?_
  refine J.nm hw (fun y186 hw => ?_)
  refine fpX6_266 rfl hT dX6_lawLine_186 ?_
  exact J.vret rfl dX6_lawLine_189 ⟨_, rfl, rfl, hw⟩
def wX6_lawLine_158 (t : Nat) (sh : List jH) (R : Nat → Nat → Option Nat) (Q : (Nat → Nat → Int32) → Prop) (V : Nat → Nat → Int32) (x1 : Int32) (x2 : Int32) (s1 : Int32) : Prop :=
  (jz s1 ∧ ((¬ x1 = 0 → ((¬ x1 = (1 : Int32) → wX6_lawLine_185 t sh R Q (vset V t 19 s1) ((vset V t 19 s1) t 17) (0 : Int32)) ∧ (x1 = (1 : Int32) → wX6_lawLine_185 t sh R Q (vset V t 19 s1) ((vset V t 19 s1) t 17) (-x2)))) ∧ (x1 = 0 → wX6_lawLine_185 t sh R Q (vset V t 19 s1) ((vset V t 19 s1) t 17) x2)))
theorem rX6_lawLine_158 {G : jG} {l : Launch} {d : Nat} {c n : Nat} (htr : l.stackTraces = false) (hdd : 67 ≤ d) {sh : List jH} {R : Nat → Nat → Option Nat} {t : Nat} (hT : jReg shX6 sh t) {Q : (Nat → Nat → Int32) → Prop} {V : Nat → Nat → Int32} {x1 : Int32} {x2 : Int32} {s1 : Int32} (hw : wX6_lawLine_158 t sh R Q V x1 x2 s1) : J G l MX6_lawLine d c n 158 [(0, .ref t), (1, .int x1), (2, .int x2)] [.int s1, .ref t] (mk sh V R) (jWv sh R Q) jNo := by
  unfold wX6_lawLine_158 at hw
  obtain ⟨h158, hw⟩ := hw
  refine fpX6_263 rfl hT dX6_lawLine_158 h158 ?_
  refine J.aload_n 0 dX6_lawLine_161 rfl ?_
  refine J.dup dX6_lawLine_162 rfl ?_
  refine fgX6_266 rfl hT dX6_lawLine_163 ?_
  refine J.iload_n 1 dX6_lawLine_166 rfl ?_
  refine J.if_ne 174 dX6_lawLine_167 (by decide) ⟨fun c167 => ?_, fun c167 => ?_⟩
  · obtain ⟨hw, -⟩ := hw
    specialize hw c167
    refine J.iload_n 1 dX6_lawLine_174 rfl ?_
    refine J.iconst (v := (1 : Int32)) dX6_lawLine_175 (by decide) ?_
    refine J.icmp_ne 184 dX6_lawLine_176 (by decide) ⟨fun c176 => ?_, fun c176 => ?_⟩
    · obtain ⟨hw, -⟩ := hw
      specialize hw c176
      refine J.iconst (v := (0 : Int32)) dX6_lawLine_184 (by decide) ?_
      exact J.pick [] rfl (rX6_lawLine_185 htr hdd hT hw)
    · obtain ⟨-, hw⟩ := hw
      specialize hw c176
      refine J.iload_n 2 dX6_lawLine_179 rfl ?_
      refine J.ineg dX6_lawLine_180 ?_
      refine J.goto 185 dX6_lawLine_181 (by decide) ?_
      exact J.pick [] rfl (rX6_lawLine_185 htr hdd hT hw)
  · obtain ⟨-, hw⟩ := hw
    specialize hw c167
    refine J.iload_n 2 dX6_lawLine_170 rfl ?_
    refine J.goto 185 dX6_lawLine_171 (by decide) ?_
    exact J.pick [] rfl (rX6_lawLine_185 htr hdd hT hw)
def wX6_lawLine_153 (t : Nat) (sh : List jH) (R : Nat → Nat → Option Nat) (Q : (Nat → Nat → Int32) → Prop) (V : Nat → Nat → Int32) (x1 : Int32) (x2 : Int32) : Prop :=
  wX6_lawLine_158 t sh R Q V x1 x2 (1 : Int32)
theorem rX6_lawLine_153 {G : jG} {l : Launch} {d : Nat} {c n : Nat} (htr : l.stackTraces = false) (hdd : 67 ≤ d) {sh : List jH} {R : Nat → Nat → Option Nat} {t : Nat} (hT : jReg shX6 sh t) {Q : (Nat → Nat → Int32) → Prop} {V : Nat → Nat → Int32} {x1 : Int32} {x2 : Int32} (hw : wX6_lawLine_153 t sh R Q V x1 x2) : J G l MX6_lawLine d c n 153 [(0, .ref t), (1, .int x1), (2, .int x2)] [.ref t] (mk sh V R) (jWv sh R Q) jNo := by
  unfold wX6_lawLine_153 at hw
  refine J.iconst (v := (1 : Int32)) dX6_lawLine_153 (by decide) ?_
  refine J.goto 158 dX6_lawLine_154 (by decide) ?_
  exact (rX6_lawLine_158 htr hdd hT hw)
def wX6_lawLine_132 (t : Nat) (sh : List jH) (R : Nat → Nat → Option Nat) (Q : (Nat → Nat → Int32) → Prop) (V : Nat → Nat → Int32) (x1 : Int32) (x2 : Int32) (x3 : Int32) (s1 : Int32) : Prop :=
  (jz s1 ∧ ((¬ x3 = 0 → ((¬ ((vset V t 18 s1) t 19) = 0 → wX6_lawLine_153 t sh R Q (vset V t 18 s1) x1 x2) ∧ (((vset V t 18 s1) t 19) = 0 → ((¬ x1 = (2 : Int32) → wX6_lawLine_158 t sh R Q (vset V t 18 s1) x1 x2 (0 : Int32)) ∧ (x1 = (2 : Int32) → wX6_lawLine_153 t sh R Q (vset V t 18 s1) x1 x2))))) ∧ (x3 = 0 → Q (vset V t 18 s1))))
theorem rX6_lawLine_132 {G : jG} {l : Launch} {d : Nat} {c n : Nat} (htr : l.stackTraces = false) (hdd : 67 ≤ d) {sh : List jH} {R : Nat → Nat → Option Nat} {t : Nat} (hT : jReg shX6 sh t) {Q : (Nat → Nat → Int32) → Prop} {V : Nat → Nat → Int32} {x1 : Int32} {x2 : Int32} {x3 : Int32} {s1 : Int32} (hw : wX6_lawLine_132 t sh R Q V x1 x2 x3 s1) : J G l MX6_lawLine d c n 132 [(0, .ref t), (1, .int x1), (2, .int x2), (3, .int x3)] [.int s1, .ref t] (mk sh V R) (jWv sh R Q) jNo := by
  unfold wX6_lawLine_132 at hw
  obtain ⟨h132, hw⟩ := hw
  refine fpX6_260 rfl hT dX6_lawLine_132 h132 ?_
  refine J.iload_n 3 dX6_lawLine_135 rfl ?_
  refine J.if_ne 140 dX6_lawLine_136 (by decide) ⟨fun c136 => ?_, fun c136 => ?_⟩
  · obtain ⟨hw, -⟩ := hw
    specialize hw c136
    refine J.aload_n 0 dX6_lawLine_140 rfl ?_
    refine J.aload_n 0 dX6_lawLine_141 rfl ?_
    refine fgX6_263 rfl hT dX6_lawLine_142 ?_
    refine J.if_ne 153 dX6_lawLine_145 (by decide) ⟨fun c145 => ?_, fun c145 => ?_⟩
    · obtain ⟨hw, -⟩ := hw
      specialize hw c145
      exact J.pick [0, 1, 2] rfl (rX6_lawLine_153 htr hdd hT hw)
    · obtain ⟨-, hw⟩ := hw
      specialize hw c145
      refine J.iload_n 1 dX6_lawLine_148 rfl ?_
      refine J.iconst (v := (2 : Int32)) dX6_lawLine_149 (by decide) ?_
      refine J.icmp_ne 157 dX6_lawLine_150 (by decide) ⟨fun c150 => ?_, fun c150 => ?_⟩
      · obtain ⟨hw, -⟩ := hw
        specialize hw c150
        refine J.iconst (v := (0 : Int32)) dX6_lawLine_157 (by decide) ?_
        exact J.pick [0, 1, 2] rfl (rX6_lawLine_158 htr hdd hT hw)
      · obtain ⟨-, hw⟩ := hw
        specialize hw c150
        exact J.pick [0, 1, 2] rfl (rX6_lawLine_153 htr hdd hT hw)
  · obtain ⟨-, hw⟩ := hw
    specialize hw c136
    exact J.vret rfl dX6_lawLine_139 ⟨_, rfl, rfl, hw⟩
def wX6_lawLine_127 (t : Nat) (sh : List jH) (R : Nat → Nat → Option Nat) (Q : (Nat → Nat → Int32) → Prop) (V : Nat → Nat → Int32) (x1 : Int32) (x2 : Int32) (x3 : Int32) : Prop :=
  wX6_lawLine_132 t sh R Q V x1 x2 x3 (1 : Int32)
theorem rX6_lawLine_127 {G : jG} {l : Launch} {d : Nat} {c n : Nat} (htr : l.stackTraces = false) (hdd : 67 ≤ d) {sh : List jH} {R : Nat → Nat → Option Nat} {t : Nat} (hT : jReg shX6 sh t) {Q : (Nat → Nat → Int32) → Prop} {V : Nat → Nat → Int32} {x1 : Int32} {x2 : Int32} {x3 : Int32} (hw : wX6_lawLine_127 t sh R Q V x1 x2 x3) : J G l MX6_lawLine d c n 127 [(0, .ref t), (1, .int x1), (2, .int x2), (3, .int x3)] [.ref t] (mk sh V R) (jWv sh R Q) jNo := by
  unfold wX6_lawLine_127 at hw
  refine J.iconst (v := (1 : Int32)) dX6_lawLine_127 (by decide) ?_
  refine J.goto 132 dX6_lawLine_128 (by decide) ?_
  exact (rX6_lawLine_132 htr hdd hT hw)
def wX6_lawLine_104 (t : Nat) (sh : List jH) (R : Nat → Nat → Option Nat) (Q : (Nat → Nat → Int32) → Prop) (V : Nat → Nat → Int32) (x1 : Int32) (x2 : Int32) (s0 : Int32) : Prop :=
  (((V t 12) = (-1 : Int32) → ((¬ (V t 18) = 0 → wX6_lawLine_127 t sh R Q V x1 x2 s0) ∧ ((V t 18) = 0 → ((¬ x1 = (2 : Int32) → wX6_lawLine_132 t sh R Q V x1 x2 s0 (0 : Int32)) ∧ (x1 = (2 : Int32) → wX6_lawLine_127 t sh R Q V x1 x2 s0))))) ∧ (¬ (V t 12) = (-1 : Int32) → Q V))
theorem rX6_lawLine_104 {G : jG} {l : Launch} {d : Nat} {c n : Nat} (htr : l.stackTraces = false) (hdd : 67 ≤ d) {sh : List jH} {R : Nat → Nat → Option Nat} {t : Nat} (hT : jReg shX6 sh t) {Q : (Nat → Nat → Int32) → Prop} {V : Nat → Nat → Int32} {x1 : Int32} {x2 : Int32} {s0 : Int32} (hw : wX6_lawLine_104 t sh R Q V x1 x2 s0) : J G l MX6_lawLine d c n 104 [(0, .ref t), (1, .int x1), (2, .int x2)] [.int s0] (mk sh V R) (jWv sh R Q) jNo := by
  unfold wX6_lawLine_104 at hw
  refine J.istore_n (lv' := [(3, .int s0), (0, .ref t), (1, .int x1), (2, .int x2)]) dX6_lawLine_104 (by decide) rfl ?_
  refine J.aload_n 1 dX6_lawLine_105 rfl ?_
  refine fgX6_25 rfl hT dX6_lawLine_106 ?_
  refine J.iconst (v := (-1 : Int32)) dX6_lawLine_109 (by decide) ?_
  refine J.icmp_eq 114 dX6_lawLine_110 (by decide) ⟨fun c110 => ?_, fun c110 => ?_⟩
  · obtain ⟨hw, -⟩ := hw
    specialize hw c110
    refine J.aload_n 1 dX6_lawLine_114 rfl ?_
    refine J.aload_n 1 dX6_lawLine_115 rfl ?_
    refine fgX6_260 rfl hT dX6_lawLine_116 ?_
    refine J.if_ne 127 dX6_lawLine_119 (by decide) ⟨fun c119 => ?_, fun c119 => ?_⟩
    · obtain ⟨hw, -⟩ := hw
      specialize hw c119
      exact J.pick [1, 2, 3, 0] rfl (rX6_lawLine_127 htr hdd hT hw)
    · obtain ⟨-, hw⟩ := hw
      specialize hw c119
      refine J.iload_n 2 dX6_lawLine_122 rfl ?_
      refine J.iconst (v := (2 : Int32)) dX6_lawLine_123 (by decide) ?_
      refine J.icmp_ne 131 dX6_lawLine_124 (by decide) ⟨fun c124 => ?_, fun c124 => ?_⟩
      · obtain ⟨hw, -⟩ := hw
        specialize hw c124
        refine J.iconst (v := (0 : Int32)) dX6_lawLine_131 (by decide) ?_
        exact J.pick [1, 2, 3, 0] rfl (rX6_lawLine_132 htr hdd hT hw)
      · obtain ⟨-, hw⟩ := hw
        specialize hw c124
        exact J.pick [1, 2, 3, 0] rfl (rX6_lawLine_127 htr hdd hT hw)
  · obtain ⟨-, hw⟩ := hw
    specialize hw c110
    exact J.vret rfl dX6_lawLine_113 ⟨_, rfl, rfl, hw⟩
def wX6_lawLine_99 (t : Nat) (sh : List jH) (R : Nat → Nat → Option Nat) (Q : (Nat → Nat → Int32) → Prop) (V : Nat → Nat → Int32) (x1 : Int32) (x2 : Int32) : Prop :=
  wX6_lawLine_104 t sh R Q V x1 x2 (1 : Int32)
theorem rX6_lawLine_99 {G : jG} {l : Launch} {d : Nat} {c n : Nat} (htr : l.stackTraces = false) (hdd : 67 ≤ d) {sh : List jH} {R : Nat → Nat → Option Nat} {t : Nat} (hT : jReg shX6 sh t) {Q : (Nat → Nat → Int32) → Prop} {V : Nat → Nat → Int32} {x1 : Int32} {x2 : Int32} (hw : wX6_lawLine_99 t sh R Q V x1 x2) : J G l MX6_lawLine d c n 99 [(0, .ref t), (1, .int x1), (2, .int x2)] [] (mk sh V R) (jWv sh R Q) jNo := by
  unfold wX6_lawLine_99 at hw
  refine J.iconst (v := (1 : Int32)) dX6_lawLine_99 (by decide) ?_
  refine J.goto 104 dX6_lawLine_100 (by decide) ?_
  exact (rX6_lawLine_104 htr hdd hT hw)
def wX6_lawLine_72 (t : Nat) (sh : List jH) (R : Nat → Nat → Option Nat) (Q : (Nat → Nat → Int32) → Prop) (V : Nat → Nat → Int32) (x1 : Int32) (s0 : Int32) : Prop :=
  (((V t 12) = (-1 : Int32) → (wX6_has t sh R V 26 (fun r86 V86 => ((r86 = 0 → wX6_lawLine_99 t sh R Q V86 x1 s0) ∧ (¬ r86 = 0 → (∃ f93, f93 ≤ 12 ∧ (wX6_some t sh R (wX6_atom t sh R f93) V86 (fun r93 V93 => ((r93 = 0 → wX6_lawLine_104 t sh R Q V93 x1 s0 (0 : Int32)) ∧ (¬ r93 = 0 → wX6_lawLine_99 t sh R Q V93 x1 s0)))))))))) ∧ (¬ (V t 12) = (-1 : Int32) → Q V))
theorem rX6_lawLine_72 {G : jG} {l : Launch} {d : Nat} {c n : Nat} (htr : l.stackTraces = false) (hdd : 67 ≤ d) {sh : List jH} {R : Nat → Nat → Option Nat} {t : Nat} (hT : jReg shX6 sh t) {Q : (Nat → Nat → Int32) → Prop} {V : Nat → Nat → Int32} {x1 : Int32} {s0 : Int32} (hw : wX6_lawLine_72 t sh R Q V x1 s0) : J G l MX6_lawLine d c n 72 [(0, .ref t), (1, .int x1)] [.int s0] (mk sh V R) (jWv sh R Q) jNo := by
  unfold wX6_lawLine_72 at hw
  refine J.istore_n (lv' := [(2, .int s0), (0, .ref t), (1, .int x1)]) dX6_lawLine_72 (by decide) rfl ?_
  refine J.aload_n 1 dX6_lawLine_73 rfl ?_
  refine fgX6_25 rfl hT dX6_lawLine_74 ?_
  refine J.iconst (v := (-1 : Int32)) dX6_lawLine_77 (by decide) ?_
  refine J.icmp_eq 82 dX6_lawLine_78 (by decide) ⟨fun c78 => ?_, fun c78 => ?_⟩
  · obtain ⟨hw, -⟩ := hw
    specialize hw c78
    refine J.aload_n 1 dX6_lawLine_82 rfl ?_
    refine J.ldcwS dX6_lawLine_83 jl_2278 (by decide) ?_
    refine uX6_117 rfl htr hT dX6_lawLine_86 (by omega) (Nat.le_of_ble_eq_true rfl) hw ?_
    clear hw
    intro r86 V86 hw
    refine J.if_eq 99 dX6_lawLine_89 (by decide) ⟨fun c89 => ?_, fun c89 => ?_⟩
    · obtain ⟨hw, -⟩ := hw
      specialize hw c89
      exact J.pick [1, 2, 0] rfl (rX6_lawLine_99 htr hdd hT hw)
    · obtain ⟨-, hw⟩ := hw
      specialize hw c89
      refine J.aload_n 1 dX6_lawLine_92 rfl ?_
      obtain ⟨f93, hf93, hw⟩ := hw
      refine uX6_242_X6_lawLine rfl htr hT (by omega) (mX6_atom htr hT f93) dX6_lawLine_93 (by omega) (Nat.le_of_ble_eq_true rfl) hw ?_
      clear hw
      intro r93 V93 hw
      refine J.if_eq 103 dX6_lawLine_96 (by decide) ⟨fun c96 => ?_, fun c96 => ?_⟩
      · obtain ⟨hw, -⟩ := hw
        specialize hw c96
        refine J.iconst (v := (0 : Int32)) dX6_lawLine_103 (by decide) ?_
        exact J.pick [1, 2, 0] rfl (rX6_lawLine_104 htr hdd hT hw)
      · obtain ⟨-, hw⟩ := hw
        specialize hw c96
        exact J.pick [1, 2, 0] rfl (rX6_lawLine_99 htr hdd hT hw)
  · obtain ⟨-, hw⟩ := hw
    specialize hw c78
    exact J.vret rfl dX6_lawLine_81 ⟨_, rfl, rfl, hw⟩
def wX6_lawLine_41 (t : Nat) (sh : List jH) (R : Nat → Nat → Option Nat) (Q : (Nat → Nat → Int32) → Prop) (V : Nat → Nat → Int32) (s0 : Int32) : Prop :=
  ((¬ s0 = (-1 : Int32) → ((¬ s0 = (2 : Int32) → (wX6_figures t V (0 : Int32) (99 : Int32) (fun r69 V69 => wX6_lawLine_72 t sh R Q V69 s0 r69))) ∧ (s0 = (2 : Int32) → wX6_lawLine_72 t sh R Q V s0 (0 : Int32)))) ∧ (s0 = (-1 : Int32) → (wX6_wrong t V (V t 11) (fun V52 => Q V52))))
theorem rX6_lawLine_41 {G : jG} {l : Launch} {d : Nat} {c n : Nat} (htr : l.stackTraces = false) (hdd : 67 ≤ d) {sh : List jH} {R : Nat → Nat → Option Nat} {t : Nat} (hT : jReg shX6 sh t) {Q : (Nat → Nat → Int32) → Prop} {V : Nat → Nat → Int32} {s0 : Int32} (hw : wX6_lawLine_41 t sh R Q V s0) : J G l MX6_lawLine d c n 41 [(0, .ref t)] [.int s0] (mk sh V R) (jWv sh R Q) jNo := by
  unfold wX6_lawLine_41 at hw
  refine J.istore_n (lv' := [(1, .int s0), (0, .ref t)]) dX6_lawLine_41 (by decide) rfl ?_
  refine J.iload_n 0 dX6_lawLine_42 rfl ?_
  refine J.iconst (v := (-1 : Int32)) dX6_lawLine_43 (by decide) ?_
  refine J.icmp_ne 56 dX6_lawLine_44 (by decide) ⟨fun c44 => ?_, fun c44 => ?_⟩
  · obtain ⟨hw, -⟩ := hw
    specialize hw c44
    refine J.iload_n 0 dX6_lawLine_56 rfl ?_
    refine J.iconst (v := (2 : Int32)) dX6_lawLine_57 (by decide) ?_
    refine J.icmp_ne 65 dX6_lawLine_58 (by decide) ⟨fun c58 => ?_, fun c58 => ?_⟩
    · obtain ⟨hw, -⟩ := hw
      specialize hw c58
      refine J.aload_n 1 dX6_lawLine_65 rfl ?_
      refine J.iconst (v := (0 : Int32)) dX6_lawLine_66 (by decide) ?_
      refine J.bipush (v := (99 : Int32)) dX6_lawLine_67 (by decide) ?_
      refine uX6_121 rfl htr hT dX6_lawLine_69 (by omega) (Nat.le_of_ble_eq_true rfl) hw ?_
      clear hw
      intro r69 V69 hw
      exact J.pick [1, 0] rfl (rX6_lawLine_72 htr hdd hT hw)
    · obtain ⟨-, hw⟩ := hw
      specialize hw c58
      refine J.iconst (v := (0 : Int32)) dX6_lawLine_61 (by decide) ?_
      refine J.goto 72 dX6_lawLine_62 (by decide) ?_
      exact J.pick [1, 0] rfl (rX6_lawLine_72 htr hdd hT hw)
  · obtain ⟨-, hw⟩ := hw
    specialize hw c44
    refine J.aload_n 1 dX6_lawLine_47 rfl ?_
    refine J.aload_n 1 dX6_lawLine_48 rfl ?_
    refine fgX6_87 rfl hT dX6_lawLine_49 ?_
    refine uX6_113 rfl htr hT dX6_lawLine_52 (by omega) (Nat.le_of_ble_eq_true rfl) hw ?_
    clear hw
    intro V52 hw
    exact J.vret rfl dX6_lawLine_55 ⟨_, rfl, rfl, hw⟩
def wX6_lawLine (t : Nat) (sh : List jH) (R : Nat → Nat → Option Nat) (V : Nat → Nat → Int32) (Q : (Nat → Nat → Int32) → Prop) : Prop :=
  (wX6_has t sh R V 38 (fun r3 V3 => ((r3 = 0 → (wX6_has t sh R V3 40 (fun r16 V16 => ((r16 = 0 → (wX6_has t sh R V16 42 (fun r30 V30 => ((r30 = 0 → wX6_lawLine_41 t sh R Q V30 (-1 : Int32)) ∧ (¬ r30 = 0 → wX6_lawLine_41 t sh R Q V30 (2 : Int32)))))) ∧ (¬ r16 = 0 → wX6_lawLine_41 t sh R Q V16 (1 : Int32)))))) ∧ (¬ r3 = 0 → wX6_lawLine_41 t sh R Q V3 (0 : Int32)))))
theorem mX6_lawLine {G : jG} {l : Launch} {d : Nat} (htr : l.stackTraces = false) (hdd : 67 ≤ d) {sh : List jH} {R : Nat → Nat → Option Nat} {V : Nat → Nat → Int32} {t : Nat} (hT : jReg shX6 sh t) {Q : (Nat → Nat → Int32) → Prop} (hw : wX6_lawLine t sh R V Q) : JM G l MX6_lawLine d 0 0 [.ref t] (mk sh V R) (jWv sh R Q) jNo := by
  refine JM.intro (by decide) rfl htr (Nat.le_of_ble_eq_true rfl) ?_
  show J G l MX6_lawLine d 0 0 0 [(0, .ref t)] [] (mk sh V R) _ _
  unfold wX6_lawLine at hw
  refine J.aload_n 0 dX6_lawLine_0 rfl ?_
  refine J.ldcS dX6_lawLine_1 jl_2261 (by decide) ?_
  refine uX6_117 rfl htr hT dX6_lawLine_3 (by omega) (Nat.le_of_ble_eq_true rfl) hw ?_
  clear hw
  intro r3 V3 hw
  refine J.if_eq 13 dX6_lawLine_6 (by decide) ⟨fun c6 => ?_, fun c6 => ?_⟩
  · obtain ⟨hw, -⟩ := hw
    specialize hw c6
    refine J.aload_n 0 dX6_lawLine_13 rfl ?_
    refine J.ldcS dX6_lawLine_14 jl_2268 (by decide) ?_
    refine uX6_117 rfl htr hT dX6_lawLine_16 (by omega) (Nat.le_of_ble_eq_true rfl) hw ?_
    clear hw
    intro r16 V16 hw
    refine J.if_eq 26 dX6_lawLine_19 (by decide) ⟨fun c19 => ?_, fun c19 => ?_⟩
    · obtain ⟨hw, -⟩ := hw
      specialize hw c19
      refine J.aload_n 0 dX6_lawLine_26 rfl ?_
      refine J.ldcwS dX6_lawLine_27 jl_2269 (by decide) ?_
      refine uX6_117 rfl htr hT dX6_lawLine_30 (by omega) (Nat.le_of_ble_eq_true rfl) hw ?_
      clear hw
      intro r30 V30 hw
      refine J.if_eq 40 dX6_lawLine_33 (by decide) ⟨fun c33 => ?_, fun c33 => ?_⟩
      · obtain ⟨hw, -⟩ := hw
        specialize hw c33
        refine J.iconst (v := (-1 : Int32)) dX6_lawLine_40 (by decide) ?_
        exact (rX6_lawLine_41 htr hdd hT hw)
      · obtain ⟨-, hw⟩ := hw
        specialize hw c33
        refine J.iconst (v := (2 : Int32)) dX6_lawLine_36 (by decide) ?_
        refine J.goto 41 dX6_lawLine_37 (by decide) ?_
        exact (rX6_lawLine_41 htr hdd hT hw)
    · obtain ⟨-, hw⟩ := hw
      specialize hw c19
      refine J.iconst (v := (1 : Int32)) dX6_lawLine_22 (by decide) ?_
      refine J.goto 41 dX6_lawLine_23 (by decide) ?_
      exact (rX6_lawLine_41 htr hdd hT hw)
  · obtain ⟨-, hw⟩ := hw
    specialize hw c6
    refine J.iconst (v := (0 : Int32)) dX6_lawLine_9 (by decide) ?_
    refine J.goto 41 dX6_lawLine_10 (by decide) ?_
    exact (rX6_lawLine_41 htr hdd hT hw)
abbrev MX6_after : jM := (yX6_after, cX6_after, 4, some .int, [])
-- VisitingHoursModel.after(Ljava/lang/String;II)I
def wX6_after_24 (t : Nat) (sh : List jH) (R : Nat → Nat → Option Nat) (a1 : Nat) (a2 : Int32) (a3 : Int32) (Q : Int32 → (Nat → Nat → Int32) → Prop) (V : Nat → Nat → Int32) : Prop :=
  (wX6_figures t V a2 a3 (fun r27 V27 => Q r27 V27))
theorem rX6_after_24 {G : jG} {l : Launch} {d : Nat} {c n : Nat} (htr : l.stackTraces = false) (hdd : 5 ≤ d) {sh : List jH} {R : Nat → Nat → Option Nat} {t : Nat} (hT : jReg shX6 sh t) {a1 : Nat} {a2 : Int32} {a3 : Int32} {Q : Int32 → (Nat → Nat → Int32) → Prop} {V : Nat → Nat → Int32} (hw : wX6_after_24 t sh R a1 a2 a3 Q V) : J G l MX6_after d c n 24 [(0, .ref t), (2, .int a2), (3, .int a3)] [] (mk sh V R) (jWr sh R Q) jNo := by
  unfold wX6_after_24 at hw
  refine J.aload_n 0 dX6_after_24 rfl ?_
  refine J.iload_n 1 dX6_after_25 rfl ?_
  refine J.iload_n 2 dX6_after_26 rfl ?_
  refine uX6_121 rfl htr hT dX6_after_27 (by omega) (Nat.le_of_ble_eq_true rfl) hw ?_
  clear hw
  intro r27 V27 hw
  exact J.iret rfl dX6_after_30 ⟨_, rfl, _, rfl, hw⟩
def wX6_after (t : Nat) (sh : List jH) (R : Nat → Nat → Option Nat) (V : Nat → Nat → Int32) (a1 : Nat) (a2 : Int32) (a3 : Int32) (Q : Int32 → (Nat → Nat → Int32) → Prop) : Prop :=
  ((¬ (V t 12) = (-1 : Int32) → wX6_after_24 t sh R a1 a2 a3 Q V) ∧ ((V t 12) = (-1 : Int32) → (wX6_has t sh R V a1 (fun r10 V10 => ((¬ r10 = 0 → wX6_after_24 t sh R a1 a2 a3 Q V10) ∧ (r10 = 0 → (wX6_wrong t V10 (V10 t 11) (fun V21 => wX6_after_24 t sh R a1 a2 a3 Q V21))))))))
theorem mX6_after {G : jG} {l : Launch} {d : Nat} (htr : l.stackTraces = false) (hdd : 5 ≤ d) {sh : List jH} {R : Nat → Nat → Option Nat} {V : Nat → Nat → Int32} {t : Nat} (hT : jReg shX6 sh t) {a1 : Nat} {a2 : Int32} {a3 : Int32} {Q : Int32 → (Nat → Nat → Int32) → Prop} (hw : wX6_after t sh R V a1 a2 a3 Q) : JM G l MX6_after d 0 0 [.ref t, .ref a1, .int a2, .int a3] (mk sh V R) (jWr sh R Q) jNo := by
  refine JM.intro (by decide) rfl htr (Nat.le_of_ble_eq_true rfl) ?_
  show J G l MX6_after d 0 0 0 [(0, .ref t), (1, .ref a1), (2, .int a2), (3, .int a3)] [] (mk sh V R) _ _
  unfold wX6_after at hw
  refine J.aload_n 0 dX6_after_0 rfl ?_
  refine fgX6_25 rfl hT dX6_after_1 ?_
  refine J.iconst (v := (-1 : Int32)) dX6_after_4 (by decide) ?_
  refine J.icmp_ne 24 dX6_after_5 (by decide) ⟨fun c5 => ?_, fun c5 => ?_⟩
  · obtain ⟨hw, -⟩ := hw
    specialize hw c5
    exact J.pick [0, 2, 3] rfl (rX6_after_24 htr hdd hT hw)
  · obtain ⟨-, hw⟩ := hw
    specialize hw c5
    refine J.aload_n 0 dX6_after_8 rfl ?_
    refine J.aload_n 1 dX6_after_9 rfl ?_
    refine uX6_117 rfl htr hT dX6_after_10 (by omega) (Nat.le_of_ble_eq_true rfl) hw ?_
    clear hw
    intro r10 V10 hw
    refine J.if_ne 24 dX6_after_13 (by decide) ⟨fun c13 => ?_, fun c13 => ?_⟩
    · obtain ⟨hw, -⟩ := hw
      specialize hw c13
      exact J.pick [0, 2, 3] rfl (rX6_after_24 htr hdd hT hw)
    · obtain ⟨-, hw⟩ := hw
      specialize hw c13
      refine J.aload_n 0 dX6_after_16 rfl ?_
      refine J.aload_n 0 dX6_after_17 rfl ?_
      refine fgX6_87 rfl hT dX6_after_18 ?_
      refine uX6_113 rfl htr hT dX6_after_21 (by omega) (Nat.le_of_ble_eq_true rfl) hw ?_
      clear hw
      intro V21 hw
      exact J.pick [0, 2, 3] rfl (rX6_after_24 htr hdd hT hw)
abbrev MX6_hours : jM := (yX6_hours, cX6_hours, 5, some .int, [])
theorem uX6_129 {G : jG} {l : Launch} {M : jM} {d c n pc : Nat} {lv : List (Nat × Value)} {rest : List Value} {post : Option Value → List jC → Prop} {xp : String → List jC → Prop} (hM : M.1.cls = RX6) (htr : l.stackTraces = false) {sh : List jH} {V : Nat → Nat → Int32} {R : Nat → Nat → Option Nat} {t : Nat} (hT : jReg shX6 sh t) {a1 : Nat} {a2 : Int32} {a3 : Int32} {Q : Int32 → (Nat → Nat → Int32) → Prop} (hd : decode M.2.1 pc = .ok (.invokevirtual 129, 3)) (hdd : 5 + 1 ≤ d) (hw8 : (rest.map fun v => v.category).sum ≤ 8) (hw : wX6_after t sh R V a1 a2 a3 Q) (kk : ∀ r V', Q r V' → J G l M d c n (pc + 3) lv (.int r :: rest) (mk sh V' R) post xp) : J G l M d c n pc lv (.int a3 :: .int a2 :: .ref a1 :: .ref t :: rest) (mk sh V R) post xp := by
  exact J.callV (As := [.ref a1, .int a2, .int a3]) (hcw := by rw [hM]; exact lw_V q2328 q2330 qs88 q152 q2331) (mX6_after htr (Nat.le_refl _) hT hw) hd rfl ⟨5, _, _, mk_at (hT.at 0 rfl), rfl, rfl, fun _ => rfl⟩ ⟨rfl, by decide, by decide, by show _ = some 3; decide +kernel⟩ hw8 ⟨hdd, by decide⟩ jcc0 (fun r9 g9 h9 => by obtain ⟨V9, rfl, r, rfl, h⟩ := h9; exact kk r V9 h) jNo.x
-- VisitingHoursModel.hours()I
def wX6_hours_25 (t : Nat) (sh : List jH) (R : Nat → Nat → Option Nat) (Q : Int32 → (Nat → Nat → Int32) → Prop) : Nat → (Nat → Nat → Int32) → Int32 → Int32 → Int32 → Prop
  | 0, _, _, _, _ => False
  | f + 1, V, x2, x3, x4 =>
    ((x2 < x4 → Q x3 V) ∧ (¬ x2 < x4 → (∀ y37 : Int32, y37 = (x3 ||| ((1 : Int32) <<< (x4 &&& 31))) → (∀ y38 : Int32, y38 = x4 + (1 : Int32) → wX6_hours_25 t sh R Q f V x2 y37 y38))))
theorem rX6_hours_25 {G : jG} {l : Launch} {d : Nat} {c n : Nat} (htr : l.stackTraces = false) (hdd : 6 ≤ d) {sh : List jH} {R : Nat → Nat → Option Nat} {t : Nat} (hT : jReg shX6 sh t) {Q : Int32 → (Nat → Nat → Int32) → Prop} : ∀ (f : Nat) (V : Nat → Nat → Int32) (x2 : Int32) (x3 : Int32) (x4 : Int32), wX6_hours_25 t sh R Q f V x2 x3 x4 → J G l MX6_hours d c n 25 [(2, .int x2), (3, .int x3), (4, .int x4)] [] (mk sh V R) (jWr sh R Q) jNo := by
  intro f
  induction f with
  | zero =>
    intro V x2 x3 x4 hw
    rw [wX6_hours_25] at hw
    exact hw.elim
  | succ f ih =>
    intro V x2 x3 x4 hw
    rw [wX6_hours_25] at hw
    refine J.iload 2 dX6_hours_25 rfl ?_
    refine J.iload_n 0 dX6_hours_27 rfl ?_
    refine J.icmp_gt 44 dX6_hours_28 (by decide) ⟨fun c28 => ?_, fun c28 => ?_⟩
    · obtain ⟨hw, -⟩ := hw
      specialize hw c28
      refine J.iload_n 1 dX6_hours_44 rfl ?_
      exact J.iret rfl dX6_hours_45 ⟨_, rfl, _, rfl, hw⟩
    · obtain ⟨-, hw⟩ := hw
      specialize hw c28
      refine J.iload_n 1 dX6_hours_31 rfl ?_
      refine J.iconst (v := (1 : Int32)) dX6_hours_32 (by decide) ?_
      refine J.iload 2 dX6_hours_33 rfl ?_
      refine J.ishl dX6_hours_35 ?_
      refine J.ior dX6_hours_36 ?_
      refine J.nm hw (fun y37 hw => ?_)
      refine J.istore_n (lv' := [(3, .int y37), (2, .int x2), (4, .int x4)]) dX6_hours_37 (by decide) rfl ?_
      refine J.iincN 2 (K := (1 : Int32)) (lv' := fun y38 => [(4, .int y38), (3, .int y37), (2, .int x2)]) dX6_hours_38 rfl (by decide) (by decide) (fun _ => rfl) hw (fun y38 hw => ?_)
      refine J.goto 25 dX6_hours_41 (by decide) ?_
      exact J.pick [2, 1, 0] rfl (ih _ _ _ _ hw)
def wX6_hours (t : Nat) (sh : List jH) (R : Nat → Nat → Option Nat) (V : Nat → Nat → Int32) (Q : Int32 → (Nat → Nat → Int32) → Prop) : Prop :=
  (wX6_after t sh R V 18 (0 : Int32) (7 : Int32) (fun r6 V6 => (wX6_after t sh R V6 20 r6 (7 : Int32) (fun r16 V16 => (∃ f9, wX6_hours_25 t sh R Q f9 V16 r16 (0 : Int32) r6)))))
theorem mX6_hours {G : jG} {l : Launch} {d : Nat} (htr : l.stackTraces = false) (hdd : 6 ≤ d) {sh : List jH} {R : Nat → Nat → Option Nat} {V : Nat → Nat → Int32} {t : Nat} (hT : jReg shX6 sh t) {Q : Int32 → (Nat → Nat → Int32) → Prop} (hw : wX6_hours t sh R V Q) : JM G l MX6_hours d 0 0 [.ref t] (mk sh V R) (jWr sh R Q) jNo := by
  refine JM.intro (by decide) rfl htr (Nat.le_of_ble_eq_true rfl) ?_
  show J G l MX6_hours d 0 0 0 [(0, .ref t)] [] (mk sh V R) _ _
  unfold wX6_hours at hw
  refine J.aload_n 0 dX6_hours_0 rfl ?_
  refine J.ldcS dX6_hours_1 jl_2336 (by decide) ?_
  refine J.iconst (v := (0 : Int32)) dX6_hours_3 (by decide) ?_
  refine J.bipush (v := (7 : Int32)) dX6_hours_4 (by decide) ?_
  refine uX6_129 rfl htr hT dX6_hours_6 (by omega) (Nat.le_of_ble_eq_true rfl) hw ?_
  clear hw
  intro r6 V6 hw
  refine J.istore_n (lv' := [(1, .int r6), (0, .ref t)]) dX6_hours_9 (by decide) rfl ?_
  refine J.aload_n 1 dX6_hours_10 rfl ?_
  refine J.ldcS dX6_hours_11 jl_2337 (by decide) ?_
  refine J.iload_n 0 dX6_hours_13 rfl ?_
  refine J.bipush (v := (7 : Int32)) dX6_hours_14 (by decide) ?_
  refine uX6_129 rfl htr hT dX6_hours_16 (by omega) (Nat.le_of_ble_eq_true rfl) hw ?_
  clear hw
  intro r16 V16 hw
  refine J.istore_n (lv' := [(2, .int r16), (1, .int r6), (0, .ref t)]) dX6_hours_19 (by decide) rfl ?_
  refine J.iconst (v := (0 : Int32)) dX6_hours_20 (by decide) ?_
  refine J.istore_n (lv' := [(3, .int (0 : Int32)), (2, .int r16), (1, .int r6), (0, .ref t)]) dX6_hours_21 (by decide) rfl ?_
  refine J.iload_n 2 dX6_hours_22 rfl ?_
  refine J.istore (lv' := [(4, .int r6), (3, .int (0 : Int32)), (2, .int r16), (1, .int r6), (0, .ref t)]) dX6_hours_23 (by decide) rfl ?_
  obtain ⟨f9, hw⟩ := hw
  exact J.pick [2, 1, 0] rfl (rX6_hours_25 htr hdd hT f9 _ _ _ _ hw)
theorem fgX6_7 {G : jG} {l : Launch} {M : jM} {d c n pc : Nat} {lv : List (Nat × Value)} {st : List Value} {sh : List jH} {V : Nat → Nat → Int32} {R : Nat → Nat → Option Nat} {post : Option Value → List jC → Prop} {xp : String → List jC → Prop} {t : Nat} (hM : M.1.cls = RX6) (hT : jReg shX6 sh t) (hd : decode M.2.1 pc = .ok (.getfield 7, 3)) (kk : J G l M d c n (pc + 3) lv (.ref (t + 1) :: st) (mk sh V R) post xp) : J G l M d c n pc lv (.ref t :: st) (mk sh V R) post xp := JV.getf (C := RX6) (T0 := TX6) (N := 28) 1 hd hT.1 (hT.at 0 rfl) rfl in_X6 (by decide) (by rw [hM]; exact q2129) rfl rfl kk
abbrev MX6_hostLine : jM := (yX6_hostLine, cX6_hostLine, 5, none, [])
theorem uX6_137 {G : jG} {l : Launch} {M : jM} {d c n pc : Nat} {lv : List (Nat × Value)} {rest : List Value} {post : Option Value → List jC → Prop} {xp : String → List jC → Prop} (hM : M.1.cls = RX6) (htr : l.stackTraces = false) {sh : List jH} {V : Nat → Nat → Int32} {R : Nat → Nat → Option Nat} {t : Nat} (hT : jReg shX6 sh t) {Q : Int32 → (Nat → Nat → Int32) → Prop} (hd : decode M.2.1 pc = .ok (.invokevirtual 137, 3)) (hdd : 6 + 1 ≤ d) (hw8 : (rest.map fun v => v.category).sum ≤ 8) (hw : wX6_hours t sh R V Q) (kk : ∀ r V', Q r V' → J G l M d c n (pc + 3) lv (.int r :: rest) (mk sh V' R) post xp) : J G l M d c n pc lv (.ref t :: rest) (mk sh V R) post xp := by
  exact J.callV (As := []) (hcw := by rw [hM]; exact lw_V q2332 q2334 qs89 q152 q2335) (mX6_hours htr (Nat.le_refl _) hT hw) hd rfl ⟨5, _, _, mk_at (hT.at 0 rfl), rfl, rfl, fun _ => rfl⟩ ⟨rfl, by decide, by decide, by show _ = some 0; decide +kernel⟩ hw8 ⟨hdd, by decide⟩ jcc0 (fun r9 g9 h9 => by obtain ⟨V9, rfl, r, rfl, h⟩ := h9; exact kk r V9 h) jNo.x
theorem uX6_140 {G : jG} {l : Launch} {M : jM} {d c n pc : Nat} {lv : List (Nat × Value)} {rest : List Value} {post : Option Value → List jC → Prop} {xp : String → List jC → Prop} (hM : M.1.cls = RX6) (htr : l.stackTraces = false) {sh : List jH} {V : Nat → Nat → Int32} {R : Nat → Nat → Option Nat} {t : Nat} (hT : jReg shX6 sh t) {a1 : Int32} {a2 : Int32} {a3 : Int32} {Q : (Nat → Nat → Int32) → Prop} (hd : decode M.2.1 pc = .ok (.invokevirtual 140, 3)) (hdd : 0 + 1 ≤ d) (hw8 : (rest.map fun v => v.category).sum ≤ 8) (hw : wX6_put t V a1 a2 a3 Q) (kk : ∀ V', Q V' → J G l M d c n (pc + 3) lv rest (mk sh V' R) post xp) : J G l M d c n pc lv (.int a3 :: .int a2 :: .int a1 :: .ref t :: rest) (mk sh V R) post xp := by
  exact J.callV (As := [.int a1, .int a2, .int a3]) (hcw := by rw [hM]; exact lw_V q2338 q2340 qs90 q152 q2341) (mX6_put htr hT hw) hd rfl ⟨5, _, _, mk_at (hT.at 0 rfl), rfl, rfl, fun _ => rfl⟩ ⟨rfl, by decide, by decide, by show _ = some 3; decide +kernel⟩ hw8 ⟨hdd, by decide⟩ jcc0 (fun r9 g9 h9 => by obtain ⟨V9, rfl, rfl, h⟩ := h9; exact kk V9 h) jNo.x
-- VisitingHoursModel.hostLine(I)V
def wX6_hostLine_16 (t : Nat) (sh : List jH) (R : Nat → Nat → Option Nat) (a1 : Int32) (Q : (Nat → Nat → Int32) → Prop) (V : Nat → Nat → Int32) : Prop :=
  (wX6_after t sh R V 16 (0 : Int32) (9 : Int32) (fun r22 V22 => (wX6_hours t sh R V22 (fun r27 V27 => (((V27 t 12) = (-1 : Int32) → (∀ y46 : Int32, y46 = (V27 (t + 1) 3) → (wX6_put t V27 y46 (0 : Int32) r22 (fun V53 => (wX6_put t V53 y46 (1 : Int32) r27 (fun V61 => (wX6_put t V61 y46 (2 : Int32) (0 : Int32) (fun V69 => (wX6_put t V69 y46 (3 : Int32) (0 : Int32) (fun V77 => (∀ y89 : Int32, y89 = ((V77 (t + 1) 3) + (1 : Int32)) → Q (vset V77 (t + 1) 3 y89)))))))))))) ∧ (¬ (V27 t 12) = (-1 : Int32) → Q V27))))))
theorem rX6_hostLine_16 {G : jG} {l : Launch} {d : Nat} {c n : Nat} (htr : l.stackTraces = false) (hdd : 7 ≤ d) {sh : List jH} {R : Nat → Nat → Option Nat} {t : Nat} (hT : jReg shX6 sh t) {a1 : Int32} {Q : (Nat → Nat → Int32) → Prop} {V : Nat → Nat → Int32} (hw : wX6_hostLine_16 t sh R a1 Q V) : J G l MX6_hostLine d c n 16 [(0, .ref t)] [] (mk sh V R) (jWv sh R Q) jNo := by
  unfold wX6_hostLine_16 at hw
  refine J.aload_n 0 dX6_hostLine_16 rfl ?_
  refine J.ldcS dX6_hostLine_17 jl_2327 (by decide) ?_
  refine J.iconst (v := (0 : Int32)) dX6_hostLine_19 (by decide) ?_
  refine J.bipush (v := (9 : Int32)) dX6_hostLine_20 (by decide) ?_
  refine uX6_129 rfl htr hT dX6_hostLine_22 (by omega) (Nat.le_of_ble_eq_true rfl) hw ?_
  clear hw
  intro r22 V22 hw
  refine J.istore_n (lv' := [(2, .int r22), (0, .ref t)]) dX6_hostLine_25 (by decide) rfl ?_
  refine J.aload_n 1 dX6_hostLine_26 rfl ?_
  refine uX6_137 rfl htr hT dX6_hostLine_27 (by omega) (Nat.le_of_ble_eq_true rfl) hw ?_
  clear hw
  intro r27 V27 hw
  refine J.istore_n (lv' := [(3, .int r27), (2, .int r22), (0, .ref t)]) dX6_hostLine_30 (by decide) rfl ?_
  refine J.aload_n 2 dX6_hostLine_31 rfl ?_
  refine fgX6_25 rfl hT dX6_hostLine_32 ?_
  refine J.iconst (v := (-1 : Int32)) dX6_hostLine_35 (by decide) ?_
  refine J.icmp_eq 40 dX6_hostLine_36 (by decide) ⟨fun c36 => ?_, fun c36 => ?_⟩
  · obtain ⟨hw, -⟩ := hw
    specialize hw c36
    refine J.aload_n 2 dX6_hostLine_40 rfl ?_
    refine fgX6_7 rfl hT dX6_hostLine_41 ?_
    refine J.iconst (v := (3 : Int32)) dX6_hostLine_44 (by decide) ?_
    refine JV.ialdK 3 dX6_hostLine_45 (hT.ge 1) (hT.at 1 rfl) rfl (by decide) (by decide) ?_
    refine J.nm hw (fun y46 hw => ?_)
    refine J.istore (lv' := [(4, .int y46), (3, .int r27), (2, .int r22), (0, .ref t)]) dX6_hostLine_46 (by decide) rfl ?_
    refine J.aload_n 3 dX6_hostLine_48 rfl ?_
    refine J.iload 0 dX6_hostLine_49 rfl ?_
    refine J.iconst (v := (0 : Int32)) dX6_hostLine_51 (by decide) ?_
    refine J.iload_n 2 dX6_hostLine_52 rfl ?_
    refine uX6_140 rfl htr hT dX6_hostLine_53 (by omega) (Nat.le_of_ble_eq_true rfl) hw ?_
    clear hw
    intro V53 hw
    refine J.aload_n 3 dX6_hostLine_56 rfl ?_
    refine J.iload 0 dX6_hostLine_57 rfl ?_
    refine J.iconst (v := (1 : Int32)) dX6_hostLine_59 (by decide) ?_
    refine J.iload_n 1 dX6_hostLine_60 rfl ?_
    refine uX6_140 rfl htr hT dX6_hostLine_61 (by omega) (Nat.le_of_ble_eq_true rfl) hw ?_
    clear hw
    intro V61 hw
    refine J.aload_n 3 dX6_hostLine_64 rfl ?_
    refine J.iload 0 dX6_hostLine_65 rfl ?_
    refine J.iconst (v := (2 : Int32)) dX6_hostLine_67 (by decide) ?_
    refine J.iconst (v := (0 : Int32)) dX6_hostLine_68 (by decide) ?_
    refine uX6_140 rfl htr hT dX6_hostLine_69 (by omega) (Nat.le_of_ble_eq_true rfl) hw ?_
    clear hw
    intro V69 hw
    refine J.aload_n 3 dX6_hostLine_72 rfl ?_
    refine J.iload 0 dX6_hostLine_73 rfl ?_
    refine J.iconst (v := (3 : Int32)) dX6_hostLine_75 (by decide) ?_
    refine J.iconst (v := (0 : Int32)) dX6_hostLine_76 (by decide) ?_
    refine uX6_140 rfl htr hT dX6_hostLine_77 (by omega) (Nat.le_of_ble_eq_true rfl) hw ?_
    clear hw
    intro V77 hw
    refine J.aload_n 3 dX6_hostLine_80 rfl ?_
    refine fgX6_7 rfl hT dX6_hostLine_81 ?_
    refine J.iconst (v := (3 : Int32)) dX6_hostLine_84 (by decide) ?_
    refine J.dup2 dX6_hostLine_85 rfl rfl ?_
    refine JV.ialdK 3 dX6_hostLine_86 (hT.ge 1) (hT.at 1 rfl) rfl (by decide) (by decide) ?_
    refine J.iconst (v := (1 : Int32)) dX6_hostLine_87 (by decide) ?_
    refine J.iadd dX6_hostLine_88 ?_
    refine J.nm hw (fun y89 hw => ?_)
    refine JV.iastK 3 dX6_hostLine_89 (hT.ge 1) (hT.at 1 rfl) rfl (by decide) (by decide) ?_
    exact J.vret rfl dX6_hostLine_90 ⟨_, rfl, rfl, hw⟩
  · obtain ⟨-, hw⟩ := hw
    specialize hw c36
    exact J.vret rfl dX6_hostLine_39 ⟨_, rfl, rfl, hw⟩
def wX6_hostLine (t : Nat) (sh : List jH) (R : Nat → Nat → Option Nat) (V : Nat → Nat → Int32) (a1 : Int32) (Q : (Nat → Nat → Int32) → Prop) : Prop :=
  ((¬ (V (t + 1) 3) = (8 : Int32) → wX6_hostLine_16 t sh R a1 Q V) ∧ ((V (t + 1) 3) = (8 : Int32) → (wX6_wrong t V a1 (fun V13 => wX6_hostLine_16 t sh R a1 Q V13))))
theorem mX6_hostLine {G : jG} {l : Launch} {d : Nat} (htr : l.stackTraces = false) (hdd : 7 ≤ d) {sh : List jH} {R : Nat → Nat → Option Nat} {V : Nat → Nat → Int32} {t : Nat} (hT : jReg shX6 sh t) {a1 : Int32} {Q : (Nat → Nat → Int32) → Prop} (hw : wX6_hostLine t sh R V a1 Q) : JM G l MX6_hostLine d 0 0 [.ref t, .int a1] (mk sh V R) (jWv sh R Q) jNo := by
  refine JM.intro (by decide) rfl htr (Nat.le_of_ble_eq_true rfl) ?_
  show J G l MX6_hostLine d 0 0 0 [(0, .ref t), (1, .int a1)] [] (mk sh V R) _ _
  unfold wX6_hostLine at hw
  refine J.aload_n 0 dX6_hostLine_0 rfl ?_
  refine fgX6_7 rfl hT dX6_hostLine_1 ?_
  refine J.iconst (v := (3 : Int32)) dX6_hostLine_4 (by decide) ?_
  refine JV.ialdK 3 dX6_hostLine_5 (hT.ge 1) (hT.at 1 rfl) rfl (by decide) (by decide) ?_
  refine J.bipush (v := (8 : Int32)) dX6_hostLine_6 (by decide) ?_
  refine J.icmp_ne 16 dX6_hostLine_8 (by decide) ⟨fun c8 => ?_, fun c8 => ?_⟩
  · obtain ⟨hw, -⟩ := hw
    specialize hw c8
    exact J.pick [0] rfl (rX6_hostLine_16 htr hdd hT hw)
  · obtain ⟨-, hw⟩ := hw
    specialize hw c8
    refine J.aload_n 0 dX6_hostLine_11 rfl ?_
    refine J.iload_n 1 dX6_hostLine_12 rfl ?_
    refine uX6_113 rfl htr hT dX6_hostLine_13 (by omega) (Nat.le_of_ble_eq_true rfl) hw ?_
    clear hw
    intro V13 hw
    exact J.pick [0] rfl (rX6_hostLine_16 htr hdd hT hw)
abbrev MX6_guestLine : jM := (yX6_guestLine, cX6_guestLine, 6, none, [])
theorem uX6_148 {G : jG} {l : Launch} {M : jM} {d c n pc : Nat} {lv : List (Nat × Value)} {rest : List Value} {post : Option Value → List jC → Prop} {xp : String → List jC → Prop} (hM : M.1.cls = RX6) (htr : l.stackTraces = false) {sh : List jH} {V : Nat → Nat → Int32} {R : Nat → Nat → Option Nat} {t : Nat} (hT : jReg shX6 sh t) {Q : Int32 → (Nat → Nat → Int32) → Prop} (hd : decode M.2.1 pc = .ok (.invokevirtual 148, 3)) (hdd : 3 + 1 ≤ d) (hw8 : (rest.map fun v => v.category).sum ≤ 8) (hw : wX6_letters t V Q) (kk : ∀ r V', Q r V' → J G l M d c n (pc + 3) lv (.int r :: rest) (mk sh V' R) post xp) : J G l M d c n pc lv (.ref t :: rest) (mk sh V R) post xp := by
  exact J.callV (As := []) (hcw := by rw [hM]; exact lw_V q2348 q2350 qs92 q152 q2351) (mX6_letters htr hT hw) hd rfl ⟨5, _, _, mk_at (hT.at 0 rfl), rfl, rfl, fun _ => rfl⟩ ⟨rfl, by decide, by decide, by show _ = some 0; decide +kernel⟩ hw8 ⟨hdd, by decide⟩ jcc0 (fun r9 g9 h9 => by obtain ⟨V9, rfl, r, rfl, h⟩ := h9; exact kk r V9 h) jNo.x
-- VisitingHoursModel.guestLine(I)V
def wX6_guestLine_55 (t : Nat) (sh : List jH) (R : Nat → Nat → Option Nat) (a1 : Int32) (Q : (Nat → Nat → Int32) → Prop) (V : Nat → Nat → Int32) (x2 : Int32) (x3 : Int32) (s0 : Int32) : Prop :=
  (((V t 12) = (-1 : Int32) → (∀ y77 : Int32, y77 = ((43 : Int32) + ((3 : Int32) * (V (t + 1) 4))) → (vp_in (y77 + (0 : Int32)) 1019 ∧ (vp_in (y77 + (1 : Int32)) 1019 ∧ (vp_in (y77 + (2 : Int32)) 1019 ∧ (∀ y119 : Int32, y119 = (((vset (vset (vset V (t + 1) (y77 + (0 : Int32)).toNatClampNeg x2) (t + 1) (y77 + (1 : Int32)).toNatClampNeg x3) (t + 1) (y77 + (2 : Int32)).toNatClampNeg s0) (t + 1) 4) + (1 : Int32)) → Q (vset (vset (vset (vset V (t + 1) (y77 + (0 : Int32)).toNatClampNeg x2) (t + 1) (y77 + (1 : Int32)).toNatClampNeg x3) (t + 1) (y77 + (2 : Int32)).toNatClampNeg s0) (t + 1) 4 y119))))))) ∧ (¬ (V t 12) = (-1 : Int32) → Q V))
theorem rX6_guestLine_55 {G : jG} {l : Launch} {d : Nat} {c n : Nat} (htr : l.stackTraces = false) (hdd : 7 ≤ d) {sh : List jH} {R : Nat → Nat → Option Nat} {t : Nat} (hT : jReg shX6 sh t) {a1 : Int32} {Q : (Nat → Nat → Int32) → Prop} {V : Nat → Nat → Int32} {x2 : Int32} {x3 : Int32} {s0 : Int32} (hw : wX6_guestLine_55 t sh R a1 Q V x2 x3 s0) : J G l MX6_guestLine d c n 55 [(0, .ref t), (2, .int x2), (3, .int x3)] [.int s0] (mk sh V R) (jWv sh R Q) jNo := by
  unfold wX6_guestLine_55 at hw
  refine J.istore (lv' := [(4, .int s0), (0, .ref t), (2, .int x2), (3, .int x3)]) dX6_guestLine_55 (by decide) rfl ?_
  refine J.aload_n 1 dX6_guestLine_57 rfl ?_
  refine fgX6_25 rfl hT dX6_guestLine_58 ?_
  refine J.iconst (v := (-1 : Int32)) dX6_guestLine_61 (by decide) ?_
  refine J.icmp_eq 66 dX6_guestLine_62 (by decide) ⟨fun c62 => ?_, fun c62 => ?_⟩
  · obtain ⟨hw, -⟩ := hw
    specialize hw c62
    refine J.bipush (v := (43 : Int32)) dX6_guestLine_66 (by decide) ?_
    refine J.iconst (v := (3 : Int32)) dX6_guestLine_68 (by decide) ?_
    refine J.aload_n 1 dX6_guestLine_69 rfl ?_
    refine fgX6_7 rfl hT dX6_guestLine_70 ?_
    refine J.iconst (v := (4 : Int32)) dX6_guestLine_73 (by decide) ?_
    refine JV.ialdK 4 dX6_guestLine_74 (hT.ge 1) (hT.at 1 rfl) rfl (by decide) (by decide) ?_
    refine J.imul dX6_guestLine_75 ?_
    refine J.iadd dX6_guestLine_76 ?_
    refine J.nm hw (fun y77 hw => ?_)
    refine J.istore (lv' := [(5, .int y77), (4, .int s0), (0, .ref t), (2, .int x2), (3, .int x3)]) dX6_guestLine_77 (by decide) rfl ?_
    refine J.aload_n 2 dX6_guestLine_79 rfl ?_
    refine fgX6_7 rfl hT dX6_guestLine_80 ?_
    refine J.iload 0 dX6_guestLine_83 rfl ?_
    refine J.iconst (v := (0 : Int32)) dX6_guestLine_85 (by decide) ?_
    refine J.iadd dX6_guestLine_86 ?_
    refine J.iload_n 3 dX6_guestLine_87 rfl ?_
    obtain ⟨h88, hw⟩ := hw
    refine JV.iast dX6_guestLine_88 (hT.ge 1) (hT.at 1 rfl) h88 ?_
    refine J.aload_n 2 dX6_guestLine_89 rfl ?_
    refine fgX6_7 rfl hT dX6_guestLine_90 ?_
    refine J.iload 0 dX6_guestLine_93 rfl ?_
    refine J.iconst (v := (1 : Int32)) dX6_guestLine_95 (by decide) ?_
    refine J.iadd dX6_guestLine_96 ?_
    refine J.iload_n 4 dX6_guestLine_97 rfl ?_
    obtain ⟨h98, hw⟩ := hw
    refine JV.iast dX6_guestLine_98 (hT.ge 1) (hT.at 1 rfl) h98 ?_
    refine J.aload_n 2 dX6_guestLine_99 rfl ?_
    refine fgX6_7 rfl hT dX6_guestLine_100 ?_
    refine J.iload 0 dX6_guestLine_103 rfl ?_
    refine J.iconst (v := (2 : Int32)) dX6_guestLine_105 (by decide) ?_
    refine J.iadd dX6_guestLine_106 ?_
    refine J.iload 1 dX6_guestLine_107 rfl ?_
    obtain ⟨h109, hw⟩ := hw
    refine JV.iast dX6_guestLine_109 (hT.ge 1) (hT.at 1 rfl) h109 ?_
    refine J.aload_n 2 dX6_guestLine_110 rfl ?_
    refine fgX6_7 rfl hT dX6_guestLine_111 ?_
    refine J.iconst (v := (4 : Int32)) dX6_guestLine_114 (by decide) ?_
    refine J.dup2 dX6_guestLine_115 rfl rfl ?_
    refine JV.ialdK 4 dX6_guestLine_116 (hT.ge 1) (hT.at 1 rfl) rfl (by decide) (by decide) ?_
    refine J.iconst (v := (1 : Int32)) dX6_guestLine_117 (by decide) ?_
    refine J.iadd dX6_guestLine_118 ?_
    refine J.nm hw (fun y119 hw => ?_)
    refine JV.iastK 4 dX6_guestLine_119 (hT.ge 1) (hT.at 1 rfl) rfl (by decide) (by decide) ?_
    exact J.vret rfl dX6_guestLine_120 ⟨_, rfl, rfl, hw⟩
  · obtain ⟨-, hw⟩ := hw
    specialize hw c62
    exact J.vret rfl dX6_guestLine_65 ⟨_, rfl, rfl, hw⟩
def wX6_guestLine_54 (t : Nat) (sh : List jH) (R : Nat → Nat → Option Nat) (a1 : Int32) (Q : (Nat → Nat → Int32) → Prop) (V : Nat → Nat → Int32) (x2 : Int32) (x3 : Int32) : Prop :=
  wX6_guestLine_55 t sh R a1 Q V x2 x3 (0 : Int32)
theorem rX6_guestLine_54 {G : jG} {l : Launch} {d : Nat} {c n : Nat} (htr : l.stackTraces = false) (hdd : 7 ≤ d) {sh : List jH} {R : Nat → Nat → Option Nat} {t : Nat} (hT : jReg shX6 sh t) {a1 : Int32} {Q : (Nat → Nat → Int32) → Prop} {V : Nat → Nat → Int32} {x2 : Int32} {x3 : Int32} (hw : wX6_guestLine_54 t sh R a1 Q V x2 x3) : J G l MX6_guestLine d c n 54 [(0, .ref t), (2, .int x2), (3, .int x3)] [] (mk sh V R) (jWv sh R Q) jNo := by
  unfold wX6_guestLine_54 at hw
  refine J.iconst (v := (0 : Int32)) dX6_guestLine_54 (by decide) ?_
  exact (rX6_guestLine_55 htr hdd hT hw)
def wX6_guestLine_16 (t : Nat) (sh : List jH) (R : Nat → Nat → Option Nat) (a1 : Int32) (Q : (Nat → Nat → Int32) → Prop) (V : Nat → Nat → Int32) : Prop :=
  (wX6_after t sh R V 22 (1 : Int32) (4 : Int32) (fun r21 V21 => (wX6_hours t sh R V21 (fun r26 V26 => ((¬ (V26 t 12) = (-1 : Int32) → wX6_guestLine_54 t sh R a1 Q V26 r21 r26) ∧ ((V26 t 12) = (-1 : Int32) → (wX6_has t sh R V26 24 (fun r41 V41 => ((r41 = 0 → wX6_guestLine_54 t sh R a1 Q V41 r21 r26) ∧ (¬ r41 = 0 → (wX6_letters t V41 (fun r48 V48 => wX6_guestLine_55 t sh R a1 Q V48 r21 r26 r48))))))))))))
theorem rX6_guestLine_16 {G : jG} {l : Launch} {d : Nat} {c n : Nat} (htr : l.stackTraces = false) (hdd : 7 ≤ d) {sh : List jH} {R : Nat → Nat → Option Nat} {t : Nat} (hT : jReg shX6 sh t) {a1 : Int32} {Q : (Nat → Nat → Int32) → Prop} {V : Nat → Nat → Int32} (hw : wX6_guestLine_16 t sh R a1 Q V) : J G l MX6_guestLine d c n 16 [(0, .ref t)] [] (mk sh V R) (jWv sh R Q) jNo := by
  unfold wX6_guestLine_16 at hw
  refine J.aload_n 0 dX6_guestLine_16 rfl ?_
  refine J.ldcS dX6_guestLine_17 jl_2346 (by decide) ?_
  refine J.iconst (v := (1 : Int32)) dX6_guestLine_19 (by decide) ?_
  refine J.iconst (v := (4 : Int32)) dX6_guestLine_20 (by decide) ?_
  refine uX6_129 rfl htr hT dX6_guestLine_21 (by omega) (Nat.le_of_ble_eq_true rfl) hw ?_
  clear hw
  intro r21 V21 hw
  refine J.istore_n (lv' := [(2, .int r21), (0, .ref t)]) dX6_guestLine_24 (by decide) rfl ?_
  refine J.aload_n 1 dX6_guestLine_25 rfl ?_
  refine uX6_137 rfl htr hT dX6_guestLine_26 (by omega) (Nat.le_of_ble_eq_true rfl) hw ?_
  clear hw
  intro r26 V26 hw
  refine J.istore_n (lv' := [(3, .int r26), (2, .int r21), (0, .ref t)]) dX6_guestLine_29 (by decide) rfl ?_
  refine J.aload_n 2 dX6_guestLine_30 rfl ?_
  refine fgX6_25 rfl hT dX6_guestLine_31 ?_
  refine J.iconst (v := (-1 : Int32)) dX6_guestLine_34 (by decide) ?_
  refine J.icmp_ne 54 dX6_guestLine_35 (by decide) ⟨fun c35 => ?_, fun c35 => ?_⟩
  · obtain ⟨hw, -⟩ := hw
    specialize hw c35
    exact J.pick [2, 1, 0] rfl (rX6_guestLine_54 htr hdd hT hw)
  · obtain ⟨-, hw⟩ := hw
    specialize hw c35
    refine J.aload_n 2 dX6_guestLine_38 rfl ?_
    refine J.ldcS dX6_guestLine_39 jl_2347 (by decide) ?_
    refine uX6_117 rfl htr hT dX6_guestLine_41 (by omega) (Nat.le_of_ble_eq_true rfl) hw ?_
    clear hw
    intro r41 V41 hw
    refine J.if_eq 54 dX6_guestLine_44 (by decide) ⟨fun c44 => ?_, fun c44 => ?_⟩
    · obtain ⟨hw, -⟩ := hw
      specialize hw c44
      exact J.pick [2, 1, 0] rfl (rX6_guestLine_54 htr hdd hT hw)
    · obtain ⟨-, hw⟩ := hw
      specialize hw c44
      refine J.aload_n 2 dX6_guestLine_47 rfl ?_
      refine uX6_148 rfl htr hT dX6_guestLine_48 (by omega) (Nat.le_of_ble_eq_true rfl) hw ?_
      clear hw
      intro r48 V48 hw
      refine J.goto 55 dX6_guestLine_51 (by decide) ?_
      exact J.pick [2, 1, 0] rfl (rX6_guestLine_55 htr hdd hT hw)
def wX6_guestLine (t : Nat) (sh : List jH) (R : Nat → Nat → Option Nat) (V : Nat → Nat → Int32) (a1 : Int32) (Q : (Nat → Nat → Int32) → Prop) : Prop :=
  ((¬ (V (t + 1) 4) = (8 : Int32) → wX6_guestLine_16 t sh R a1 Q V) ∧ ((V (t + 1) 4) = (8 : Int32) → (wX6_wrong t V a1 (fun V13 => wX6_guestLine_16 t sh R a1 Q V13))))
theorem mX6_guestLine {G : jG} {l : Launch} {d : Nat} (htr : l.stackTraces = false) (hdd : 7 ≤ d) {sh : List jH} {R : Nat → Nat → Option Nat} {V : Nat → Nat → Int32} {t : Nat} (hT : jReg shX6 sh t) {a1 : Int32} {Q : (Nat → Nat → Int32) → Prop} (hw : wX6_guestLine t sh R V a1 Q) : JM G l MX6_guestLine d 0 0 [.ref t, .int a1] (mk sh V R) (jWv sh R Q) jNo := by
  refine JM.intro (by decide) rfl htr (Nat.le_of_ble_eq_true rfl) ?_
  show J G l MX6_guestLine d 0 0 0 [(0, .ref t), (1, .int a1)] [] (mk sh V R) _ _
  unfold wX6_guestLine at hw
  refine J.aload_n 0 dX6_guestLine_0 rfl ?_
  refine fgX6_7 rfl hT dX6_guestLine_1 ?_
  refine J.iconst (v := (4 : Int32)) dX6_guestLine_4 (by decide) ?_
  refine JV.ialdK 4 dX6_guestLine_5 (hT.ge 1) (hT.at 1 rfl) rfl (by decide) (by decide) ?_
  refine J.bipush (v := (8 : Int32)) dX6_guestLine_6 (by decide) ?_
  refine J.icmp_ne 16 dX6_guestLine_8 (by decide) ⟨fun c8 => ?_, fun c8 => ?_⟩
  · obtain ⟨hw, -⟩ := hw
    specialize hw c8
    exact J.pick [0] rfl (rX6_guestLine_16 htr hdd hT hw)
  · obtain ⟨-, hw⟩ := hw
    specialize hw c8
    refine J.aload_n 0 dX6_guestLine_11 rfl ?_
    refine J.iload_n 1 dX6_guestLine_12 rfl ?_
    refine uX6_113 rfl htr hT dX6_guestLine_13 (by omega) (Nat.le_of_ble_eq_true rfl) hw ?_
    clear hw
    intro V13 hw
    exact J.pick [0] rfl (rX6_guestLine_16 htr hdd hT hw)
abbrev MX6_groundLine : jM := (yX6_groundLine, cX6_groundLine, 3, none, [])
theorem uX6_153 {G : jG} {l : Launch} {M : jM} {d c n pc : Nat} {lv : List (Nat × Value)} {rest : List Value} {post : Option Value → List jC → Prop} {xp : String → List jC → Prop} (hM : M.1.cls = RX6) (htr : l.stackTraces = false) {sh : List jH} {V : Nat → Nat → Int32} {R : Nat → Nat → Option Nat} {t : Nat} (hT : jReg shX6 sh t) {a1 : Int32} {Q : (Nat → Nat → Int32) → Prop} (hd : decode M.2.1 pc = .ok (.invokevirtual 153, 3)) (hdd : 7 + 1 ≤ d) (hw8 : (rest.map fun v => v.category).sum ≤ 8) (hw : wX6_hostLine t sh R V a1 Q) (kk : ∀ V', Q V' → J G l M d c n (pc + 3) lv rest (mk sh V' R) post xp) : J G l M d c n pc lv (.int a1 :: .ref t :: rest) (mk sh V R) post xp := by
  exact J.callV (As := [.int a1]) (hcw := by rw [hM]; exact lw_V q2323 q2325 qs87 q152 q2326) (mX6_hostLine htr (Nat.le_refl _) hT hw) hd rfl ⟨5, _, _, mk_at (hT.at 0 rfl), rfl, rfl, fun _ => rfl⟩ ⟨rfl, by decide, by decide, by show _ = some 1; decide +kernel⟩ hw8 ⟨hdd, by decide⟩ jcc0 (fun r9 g9 h9 => by obtain ⟨V9, rfl, rfl, h⟩ := h9; exact kk V9 h) jNo.x
theorem uX6_158 {G : jG} {l : Launch} {M : jM} {d c n pc : Nat} {lv : List (Nat × Value)} {rest : List Value} {post : Option Value → List jC → Prop} {xp : String → List jC → Prop} (hM : M.1.cls = RX6) (htr : l.stackTraces = false) {sh : List jH} {V : Nat → Nat → Int32} {R : Nat → Nat → Option Nat} {t : Nat} (hT : jReg shX6 sh t) {a1 : Int32} {Q : (Nat → Nat → Int32) → Prop} (hd : decode M.2.1 pc = .ok (.invokevirtual 158, 3)) (hdd : 7 + 1 ≤ d) (hw8 : (rest.map fun v => v.category).sum ≤ 8) (hw : wX6_guestLine t sh R V a1 Q) (kk : ∀ V', Q V' → J G l M d c n (pc + 3) lv rest (mk sh V' R) post xp) : J G l M d c n pc lv (.int a1 :: .ref t :: rest) (mk sh V R) post xp := by
  exact J.callV (As := [.int a1]) (hcw := by rw [hM]; exact lw_V q2342 q2344 qs91 q152 q2345) (mX6_guestLine htr (Nat.le_refl _) hT hw) hd rfl ⟨5, _, _, mk_at (hT.at 0 rfl), rfl, rfl, fun _ => rfl⟩ ⟨rfl, by decide, by decide, by show _ = some 1; decide +kernel⟩ hw8 ⟨hdd, by decide⟩ jcc0 (fun r9 g9 h9 => by obtain ⟨V9, rfl, rfl, h⟩ := h9; exact kk V9 h) jNo.x
theorem uX6_163 {G : jG} {l : Launch} {M : jM} {d c n pc : Nat} {lv : List (Nat × Value)} {rest : List Value} {post : Option Value → List jC → Prop} {xp : String → List jC → Prop} (hM : M.1.cls = RX6) (htr : l.stackTraces = false) {sh : List jH} {V : Nat → Nat → Int32} {R : Nat → Nat → Option Nat} {t : Nat} (hT : jReg shX6 sh t) {a1 : Int32} {a2 : Int32} {a3 : Int32} {Q : (Nat → Nat → Int32) → Prop} (hd : decode M.2.1 pc = .ok (.invokevirtual 163, 3)) (hdd : 4 + 1 ≤ d) (hw8 : (rest.map fun v => v.category).sum ≤ 8) (hw : wX6_ranksLine t V a1 a2 a3 Q) (kk : ∀ V', Q V' → J G l M d c n (pc + 3) lv rest (mk sh V' R) post xp) : J G l M d c n pc lv (.int a3 :: .int a2 :: .int a1 :: .ref t :: rest) (mk sh V R) post xp := by
  exact J.callV (As := [.int a1, .int a2, .int a3]) (hcw := by rw [hM]; exact lw_V q2359 q2361 qs93 q152 q2362) (mX6_ranksLine htr hT hw) hd rfl ⟨5, _, _, mk_at (hT.at 0 rfl), rfl, rfl, fun _ => rfl⟩ ⟨rfl, by decide, by decide, by show _ = some 3; decide +kernel⟩ hw8 ⟨hdd, by decide⟩ jcc0 (fun r9 g9 h9 => by obtain ⟨V9, rfl, rfl, h⟩ := h9; exact kk V9 h) jNo.x
theorem uX6_170 {G : jG} {l : Launch} {M : jM} {d c n pc : Nat} {lv : List (Nat × Value)} {rest : List Value} {post : Option Value → List jC → Prop} {xp : String → List jC → Prop} (hM : M.1.cls = RX6) (htr : l.stackTraces = false) {sh : List jH} {V : Nat → Nat → Int32} {R : Nat → Nat → Option Nat} {t : Nat} (hT : jReg shX6 sh t) {a1 : Int32} {a2 : Int32} {a3 : Int32} {Q : (Nat → Nat → Int32) → Prop} (hd : decode M.2.1 pc = .ok (.invokevirtual 170, 3)) (hdd : 4 + 1 ≤ d) (hw8 : (rest.map fun v => v.category).sum ≤ 8) (hw : wX6_tells t V a1 a2 a3 Q) (kk : ∀ V', Q V' → J G l M d c n (pc + 3) lv rest (mk sh V' R) post xp) : J G l M d c n pc lv (.int a3 :: .int a2 :: .int a1 :: .ref t :: rest) (mk sh V R) post xp := by
  exact J.callV (As := [.int a1, .int a2, .int a3]) (hcw := by rw [hM]; exact lw_V q2365 q2367 qs94 q152 q2368) (mX6_tells htr hT hw) hd rfl ⟨5, _, _, mk_at (hT.at 0 rfl), rfl, rfl, fun _ => rfl⟩ ⟨rfl, by decide, by decide, by show _ = some 3; decide +kernel⟩ hw8 ⟨hdd, by decide⟩ jcc0 (fun r9 g9 h9 => by obtain ⟨V9, rfl, rfl, h⟩ := h9; exact kk V9 h) jNo.x
-- VisitingHoursModel.groundLine()V
def wX6_groundLine (t : Nat) (sh : List jH) (R : Nat → Nat → Option Nat) (V : Nat → Nat → Int32) (Q : (Nat → Nat → Int32) → Prop) : Prop :=
  (wX6_here t V (fun r1 V1 => (wX6_has t sh R V1 0 (fun r8 V8 => ((r8 = 0 → (wX6_has t sh R V8 2 (fun r25 V25 => ((r25 = 0 → (wX6_has t sh R V25 4 (fun r42 V42 => ((r42 = 0 → (wX6_has t sh R V42 6 (fun r72 V72 => ((r72 = 0 → (wX6_has t sh R V72 8 (fun r103 V103 => ((r103 = 0 → (wX6_has t sh R V103 10 (fun r123 V123 => ((r123 = 0 → (wX6_has t sh R V123 12 (fun r145 V145 => ((r145 = 0 → (wX6_has t sh R V145 14 (fun r178 V178 => ((r178 = 0 → (wX6_wrong t V178 (V178 t 11) (fun V213 => Q V213))) ∧ (¬ r178 = 0 → (wX6_letters t V178 (fun r185 V185 => ((¬ (V185 t 12) = (-1 : Int32) → Q V185) ∧ ((V185 t 12) = (-1 : Int32) → Q (vset V185 (t + 1) 8 r185)))))))))) ∧ (¬ r145 = 0 → (wX6_letters t V145 (fun r152 V152 => ((¬ (V152 t 12) = (-1 : Int32) → Q V152) ∧ ((V152 t 12) = (-1 : Int32) → Q (vset V152 (t + 1) 7 r152)))))))))) ∧ (¬ r123 = 0 → (wX6_tells t V123 (6 : Int32) (0 : Int32) (999 : Int32) (fun V136 => Q V136))))))) ∧ (¬ r103 = 0 → (wX6_tells t V103 (5 : Int32) (0 : Int32) (100 : Int32) (fun V114 => Q V114))))))) ∧ (¬ r72 = 0 → (wX6_ranksLine t V72 (131 : Int32) (V72 (t + 1) 4) (V72 (t + 1) 3) (fun V94 => Q V94))))))) ∧ (¬ r42 = 0 → (wX6_ranksLine t V42 (67 : Int32) (V42 (t + 1) 3) (V42 (t + 1) 4) (fun V63 => Q V63))))))) ∧ (¬ r25 = 0 → (wX6_guestLine t sh R V25 r1 (fun V33 => Q V33))))))) ∧ (¬ r8 = 0 → (wX6_hostLine t sh R V8 r1 (fun V16 => Q V16))))))))
theorem mX6_groundLine {G : jG} {l : Launch} {d : Nat} (htr : l.stackTraces = false) (hdd : 8 ≤ d) {sh : List jH} {R : Nat → Nat → Option Nat} {V : Nat → Nat → Int32} {t : Nat} (hT : jReg shX6 sh t) {Q : (Nat → Nat → Int32) → Prop} (hw : wX6_groundLine t sh R V Q) : JM G l MX6_groundLine d 0 0 [.ref t] (mk sh V R) (jWv sh R Q) jNo := by
  refine JM.intro (by decide) rfl htr (Nat.le_of_ble_eq_true rfl) ?_
  show J G l MX6_groundLine d 0 0 0 [(0, .ref t)] [] (mk sh V R) _ _
  unfold wX6_groundLine at hw
  refine J.aload_n 0 dX6_groundLine_0 rfl ?_
  refine uX6_110 rfl htr hT dX6_groundLine_1 (by omega) (Nat.le_of_ble_eq_true rfl) hw ?_
  clear hw
  intro r1 V1 hw
  refine J.istore_n (lv' := [(1, .int r1), (0, .ref t)]) dX6_groundLine_4 (by decide) rfl ?_
  refine J.aload_n 1 dX6_groundLine_5 rfl ?_
  refine J.ldcS dX6_groundLine_6 jl_2310 (by decide) ?_
  refine uX6_117 rfl htr hT dX6_groundLine_8 (by omega) (Nat.le_of_ble_eq_true rfl) hw ?_
  clear hw
  intro r8 V8 hw
  refine J.if_eq 22 dX6_groundLine_11 (by decide) ⟨fun c11 => ?_, fun c11 => ?_⟩
  · obtain ⟨hw, -⟩ := hw
    specialize hw c11
    refine J.aload_n 1 dX6_groundLine_22 rfl ?_
    refine J.ldcS dX6_groundLine_23 jl_2311 (by decide) ?_
    refine uX6_117 rfl htr hT dX6_groundLine_25 (by omega) (Nat.le_of_ble_eq_true rfl) hw ?_
    clear hw
    intro r25 V25 hw
    refine J.if_eq 39 dX6_groundLine_28 (by decide) ⟨fun c28 => ?_, fun c28 => ?_⟩
    · obtain ⟨hw, -⟩ := hw
      specialize hw c28
      refine J.aload_n 1 dX6_groundLine_39 rfl ?_
      refine J.ldcS dX6_groundLine_40 jl_2358 (by decide) ?_
      refine uX6_117 rfl htr hT dX6_groundLine_42 (by omega) (Nat.le_of_ble_eq_true rfl) hw ?_
      clear hw
      intro r42 V42 hw
      refine J.if_eq 69 dX6_groundLine_45 (by decide) ⟨fun c45 => ?_, fun c45 => ?_⟩
      · obtain ⟨hw, -⟩ := hw
        specialize hw c45
        refine J.aload_n 1 dX6_groundLine_69 rfl ?_
        refine J.ldcS dX6_groundLine_70 jl_2363 (by decide) ?_
        refine uX6_117 rfl htr hT dX6_groundLine_72 (by omega) (Nat.le_of_ble_eq_true rfl) hw ?_
        clear hw
        intro r72 V72 hw
        refine J.if_eq 100 dX6_groundLine_75 (by decide) ⟨fun c75 => ?_, fun c75 => ?_⟩
        · obtain ⟨hw, -⟩ := hw
          specialize hw c75
          refine J.aload_n 1 dX6_groundLine_100 rfl ?_
          refine J.ldcS dX6_groundLine_101 jl_2364 (by decide) ?_
          refine uX6_117 rfl htr hT dX6_groundLine_103 (by omega) (Nat.le_of_ble_eq_true rfl) hw ?_
          clear hw
          intro r103 V103 hw
          refine J.if_eq 120 dX6_groundLine_106 (by decide) ⟨fun c106 => ?_, fun c106 => ?_⟩
          · obtain ⟨hw, -⟩ := hw
            specialize hw c106
            refine J.aload_n 1 dX6_groundLine_120 rfl ?_
            refine J.ldcS dX6_groundLine_121 jl_2316 (by decide) ?_
            refine uX6_117 rfl htr hT dX6_groundLine_123 (by omega) (Nat.le_of_ble_eq_true rfl) hw ?_
            clear hw
            intro r123 V123 hw
            refine J.if_eq 142 dX6_groundLine_126 (by decide) ⟨fun c126 => ?_, fun c126 => ?_⟩
            · obtain ⟨hw, -⟩ := hw
              specialize hw c126
              refine J.aload_n 1 dX6_groundLine_142 rfl ?_
              refine J.ldcS dX6_groundLine_143 jl_2369 (by decide) ?_
              refine uX6_117 rfl htr hT dX6_groundLine_145 (by omega) (Nat.le_of_ble_eq_true rfl) hw ?_
              clear hw
              intro r145 V145 hw
              refine J.if_eq 175 dX6_groundLine_148 (by decide) ⟨fun c148 => ?_, fun c148 => ?_⟩
              · obtain ⟨hw, -⟩ := hw
                specialize hw c148
                refine J.aload_n 1 dX6_groundLine_175 rfl ?_
                refine J.ldcS dX6_groundLine_176 jl_2370 (by decide) ?_
                refine uX6_117 rfl htr hT dX6_groundLine_178 (by omega) (Nat.le_of_ble_eq_true rfl) hw ?_
                clear hw
                intro r178 V178 hw
                refine J.if_eq 208 dX6_groundLine_181 (by decide) ⟨fun c181 => ?_, fun c181 => ?_⟩
                · obtain ⟨hw, -⟩ := hw
                  specialize hw c181
                  refine J.aload_n 1 dX6_groundLine_208 rfl ?_
                  refine J.aload_n 1 dX6_groundLine_209 rfl ?_
                  refine fgX6_87 rfl hT dX6_groundLine_210 ?_
                  refine uX6_113 rfl htr hT dX6_groundLine_213 (by omega) (Nat.le_of_ble_eq_true rfl) hw ?_
                  clear hw
                  intro V213 hw
                  exact J.vret rfl dX6_groundLine_216 ⟨_, rfl, rfl, hw⟩
                · obtain ⟨-, hw⟩ := hw
                  specialize hw c181
                  refine J.aload_n 1 dX6_groundLine_184 rfl ?_
                  refine uX6_148 rfl htr hT dX6_groundLine_185 (by omega) (Nat.le_of_ble_eq_true rfl) hw ?_
                  clear hw
                  intro r185 V185 hw
                  refine J.istore_n (lv' := [(2, .int r185), (1, .int r1), (0, .ref t)]) dX6_groundLine_188 (by decide) rfl ?_
                  refine J.aload_n 2 dX6_groundLine_189 rfl ?_
                  refine fgX6_25 rfl hT dX6_groundLine_190 ?_
                  refine J.iconst (v := (-1 : Int32)) dX6_groundLine_193 (by decide) ?_
                  refine J.icmp_ne 205 dX6_groundLine_194 (by decide) ⟨fun c194 => ?_, fun c194 => ?_⟩
                  · obtain ⟨hw, -⟩ := hw
                    specialize hw c194
                    refine J.goto 216 dX6_groundLine_205 (by decide) ?_
                    exact J.vret rfl dX6_groundLine_216 ⟨_, rfl, rfl, hw⟩
                  · obtain ⟨-, hw⟩ := hw
                    specialize hw c194
                    refine J.aload_n 2 dX6_groundLine_197 rfl ?_
                    refine fgX6_7 rfl hT dX6_groundLine_198 ?_
                    refine J.bipush (v := (8 : Int32)) dX6_groundLine_201 (by decide) ?_
                    refine J.iload_n 0 dX6_groundLine_203 rfl ?_
                    refine JV.iastK 8 dX6_groundLine_204 (hT.ge 1) (hT.at 1 rfl) rfl (by decide) (by decide) ?_
                    refine J.goto 216 dX6_groundLine_205 (by decide) ?_
                    exact J.vret rfl dX6_groundLine_216 ⟨_, rfl, rfl, hw⟩
              · obtain ⟨-, hw⟩ := hw
                specialize hw c148
                refine J.aload_n 1 dX6_groundLine_151 rfl ?_
                refine uX6_148 rfl htr hT dX6_groundLine_152 (by omega) (Nat.le_of_ble_eq_true rfl) hw ?_
                clear hw
                intro r152 V152 hw
                refine J.istore_n (lv' := [(2, .int r152), (1, .int r1), (0, .ref t)]) dX6_groundLine_155 (by decide) rfl ?_
                refine J.aload_n 2 dX6_groundLine_156 rfl ?_
                refine fgX6_25 rfl hT dX6_groundLine_157 ?_
                refine J.iconst (v := (-1 : Int32)) dX6_groundLine_160 (by decide) ?_
                refine J.icmp_ne 172 dX6_groundLine_161 (by decide) ⟨fun c161 => ?_, fun c161 => ?_⟩
                · obtain ⟨hw, -⟩ := hw
                  specialize hw c161
                  refine J.goto 216 dX6_groundLine_172 (by decide) ?_
                  exact J.vret rfl dX6_groundLine_216 ⟨_, rfl, rfl, hw⟩
                · obtain ⟨-, hw⟩ := hw
                  specialize hw c161
                  refine J.aload_n 2 dX6_groundLine_164 rfl ?_
                  refine fgX6_7 rfl hT dX6_groundLine_165 ?_
                  refine J.bipush (v := (7 : Int32)) dX6_groundLine_168 (by decide) ?_
                  refine J.iload_n 0 dX6_groundLine_170 rfl ?_
                  refine JV.iastK 7 dX6_groundLine_171 (hT.ge 1) (hT.at 1 rfl) rfl (by decide) (by decide) ?_
                  refine J.goto 216 dX6_groundLine_172 (by decide) ?_
                  exact J.vret rfl dX6_groundLine_216 ⟨_, rfl, rfl, hw⟩
            · obtain ⟨-, hw⟩ := hw
              specialize hw c126
              refine J.aload_n 1 dX6_groundLine_129 rfl ?_
              refine J.bipush (v := (6 : Int32)) dX6_groundLine_130 (by decide) ?_
              refine J.iconst (v := (0 : Int32)) dX6_groundLine_132 (by decide) ?_
              refine J.sipush (v := (999 : Int32)) dX6_groundLine_133 (by decide) ?_
              refine uX6_170 rfl htr hT dX6_groundLine_136 (by omega) (Nat.le_of_ble_eq_true rfl) hw ?_
              clear hw
              intro V136 hw
              refine J.goto 216 dX6_groundLine_139 (by decide) ?_
              exact J.vret rfl dX6_groundLine_216 ⟨_, rfl, rfl, hw⟩
          · obtain ⟨-, hw⟩ := hw
            specialize hw c106
            refine J.aload_n 1 dX6_groundLine_109 rfl ?_
            refine J.iconst (v := (5 : Int32)) dX6_groundLine_110 (by decide) ?_
            refine J.iconst (v := (0 : Int32)) dX6_groundLine_111 (by decide) ?_
            refine J.bipush (v := (100 : Int32)) dX6_groundLine_112 (by decide) ?_
            refine uX6_170 rfl htr hT dX6_groundLine_114 (by omega) (Nat.le_of_ble_eq_true rfl) hw ?_
            clear hw
            intro V114 hw
            refine J.goto 216 dX6_groundLine_117 (by decide) ?_
            exact J.vret rfl dX6_groundLine_216 ⟨_, rfl, rfl, hw⟩
        · obtain ⟨-, hw⟩ := hw
          specialize hw c75
          refine J.aload_n 1 dX6_groundLine_78 rfl ?_
          refine J.sipush (v := (131 : Int32)) dX6_groundLine_79 (by decide) ?_
          refine J.aload_n 1 dX6_groundLine_82 rfl ?_
          refine fgX6_7 rfl hT dX6_groundLine_83 ?_
          refine J.iconst (v := (4 : Int32)) dX6_groundLine_86 (by decide) ?_
          refine JV.ialdK 4 dX6_groundLine_87 (hT.ge 1) (hT.at 1 rfl) rfl (by decide) (by decide) ?_
          refine J.aload_n 1 dX6_groundLine_88 rfl ?_
          refine fgX6_7 rfl hT dX6_groundLine_89 ?_
          refine J.iconst (v := (3 : Int32)) dX6_groundLine_92 (by decide) ?_
          refine JV.ialdK 3 dX6_groundLine_93 (hT.ge 1) (hT.at 1 rfl) rfl (by decide) (by decide) ?_
          refine uX6_163 rfl htr hT dX6_groundLine_94 (by omega) (Nat.le_of_ble_eq_true rfl) hw ?_
          clear hw
          intro V94 hw
          refine J.goto 216 dX6_groundLine_97 (by decide) ?_
          exact J.vret rfl dX6_groundLine_216 ⟨_, rfl, rfl, hw⟩
      · obtain ⟨-, hw⟩ := hw
        specialize hw c45
        refine J.aload_n 1 dX6_groundLine_48 rfl ?_
        refine J.bipush (v := (67 : Int32)) dX6_groundLine_49 (by decide) ?_
        refine J.aload_n 1 dX6_groundLine_51 rfl ?_
        refine fgX6_7 rfl hT dX6_groundLine_52 ?_
        refine J.iconst (v := (3 : Int32)) dX6_groundLine_55 (by decide) ?_
        refine JV.ialdK 3 dX6_groundLine_56 (hT.ge 1) (hT.at 1 rfl) rfl (by decide) (by decide) ?_
        refine J.aload_n 1 dX6_groundLine_57 rfl ?_
        refine fgX6_7 rfl hT dX6_groundLine_58 ?_
        refine J.iconst (v := (4 : Int32)) dX6_groundLine_61 (by decide) ?_
        refine JV.ialdK 4 dX6_groundLine_62 (hT.ge 1) (hT.at 1 rfl) rfl (by decide) (by decide) ?_
        refine uX6_163 rfl htr hT dX6_groundLine_63 (by omega) (Nat.le_of_ble_eq_true rfl) hw ?_
        clear hw
        intro V63 hw
        refine J.goto 216 dX6_groundLine_66 (by decide) ?_
        exact J.vret rfl dX6_groundLine_216 ⟨_, rfl, rfl, hw⟩
    · obtain ⟨-, hw⟩ := hw
      specialize hw c28
      refine J.aload_n 1 dX6_groundLine_31 rfl ?_
      refine J.iload_n 0 dX6_groundLine_32 rfl ?_
      refine uX6_158 rfl htr hT dX6_groundLine_33 (by omega) (Nat.le_of_ble_eq_true rfl) hw ?_
      clear hw
      intro V33 hw
      refine J.goto 216 dX6_groundLine_36 (by decide) ?_
      exact J.vret rfl dX6_groundLine_216 ⟨_, rfl, rfl, hw⟩
  · obtain ⟨-, hw⟩ := hw
    specialize hw c11
    refine J.aload_n 1 dX6_groundLine_14 rfl ?_
    refine J.iload_n 0 dX6_groundLine_15 rfl ?_
    refine uX6_153 rfl htr hT dX6_groundLine_16 (by omega) (Nat.le_of_ble_eq_true rfl) hw ?_
    clear hw
    intro V16 hw
    refine J.goto 216 dX6_groundLine_19 (by decide) ?_
    exact J.vret rfl dX6_groundLine_216 ⟨_, rfl, rfl, hw⟩
abbrev MX6_read : jM := (yX6_read, cX6_read, 4, some .int, [])
theorem uX6_182 {G : jG} {l : Launch} {M : jM} {d c n pc : Nat} {lv : List (Nat × Value)} {rest : List Value} {post : Option Value → List jC → Prop} {xp : String → List jC → Prop} (hM : M.1.cls = RX6) (htr : l.stackTraces = false) {sh : List jH} {V : Nat → Nat → Int32} {R : Nat → Nat → Option Nat} {t : Nat} (hT : jReg shX6 sh t) {Q : (Nat → Nat → Int32) → Prop} (hd : decode M.2.1 pc = .ok (.invokevirtual 182, 3)) (hdd : 67 + 1 ≤ d) (hw8 : (rest.map fun v => v.category).sum ≤ 8) (hw : wX6_lawLine t sh R V Q) (kk : ∀ V', Q V' → J G l M d c n (pc + 3) lv rest (mk sh V' R) post xp) : J G l M d c n pc lv (.ref t :: rest) (mk sh V R) post xp := by
  exact J.callV (As := []) (hcw := by rw [hM]; exact lw_V q2257 q2259 qs75 q152 q2260) (mX6_lawLine htr (Nat.le_refl _) hT hw) hd rfl ⟨5, _, _, mk_at (hT.at 0 rfl), rfl, rfl, fun _ => rfl⟩ ⟨rfl, by decide, by decide, by show _ = some 0; decide +kernel⟩ hw8 ⟨hdd, by decide⟩ jcc0 (fun r9 g9 h9 => by obtain ⟨V9, rfl, rfl, h⟩ := h9; exact kk V9 h) jNo.x
theorem uX6_185 {G : jG} {l : Launch} {M : jM} {d c n pc : Nat} {lv : List (Nat × Value)} {rest : List Value} {post : Option Value → List jC → Prop} {xp : String → List jC → Prop} (hM : M.1.cls = RX6) (htr : l.stackTraces = false) {sh : List jH} {V : Nat → Nat → Int32} {R : Nat → Nat → Option Nat} {t : Nat} (hT : jReg shX6 sh t) {Q : (Nat → Nat → Int32) → Prop} (hd : decode M.2.1 pc = .ok (.invokevirtual 185, 3)) (hdd : 8 + 1 ≤ d) (hw8 : (rest.map fun v => v.category).sum ≤ 8) (hw : wX6_groundLine t sh R V Q) (kk : ∀ V', Q V' → J G l M d c n (pc + 3) lv rest (mk sh V' R) post xp) : J G l M d c n pc lv (.ref t :: rest) (mk sh V R) post xp := by
  exact J.callV (As := []) (hcw := by rw [hM]; exact lw_V q2319 q2321 qs86 q152 q2322) (mX6_groundLine htr (Nat.le_refl _) hT hw) hd rfl ⟨5, _, _, mk_at (hT.at 0 rfl), rfl, rfl, fun _ => rfl⟩ ⟨rfl, by decide, by decide, by show _ = some 0; decide +kernel⟩ hw8 ⟨hdd, by decide⟩ jcc0 (fun r9 g9 h9 => by obtain ⟨V9, rfl, rfl, h⟩ := h9; exact kk V9 h) jNo.x
-- VisitingHoursModel.read(Z)I
def wX6_read_80 (t : Nat) (sh : List jH) (R : Nat → Nat → Option Nat) (a1 : Int32) (Q : Int32 → (Nat → Nat → Int32) → Prop) (K23 : (Nat → Nat → Int32) → Int32 → Int32 → Prop) (V : Nat → Nat → Int32) (x2 : Int32) (x3 : Int32) : Prop :=
  (∀ y80 : Int32, y80 = x3 + (1 : Int32) → (wX6_skip t V (fun V84 => ((¬ (V84 t 12) = (-1 : Int32) → K23 V84 (0 : Int32) y80) ∧ ((V84 t 12) = (-1 : Int32) → ((¬ (V84 t 11) = (V84 t 10) → (wX6_isSign t V84 (59 : Int32) (fun r114 V114 => ((r114 = 0 → (wX6_wrong t V114 (V114 t 11) (fun V138 => K23 V138 x2 y80))) ∧ (¬ r114 = 0 → (∀ y127 : Int32, y127 = ((V114 t 11) + (1 : Int32)) → K23 (vset V114 t 11 y127) x2 y80)))))) ∧ ((V84 t 11) = (V84 t 10) → K23 V84 (0 : Int32) y80)))))))
theorem rX6_read_80 {G : jG} {l : Launch} {d : Nat} {c n : Nat} (htr : l.stackTraces = false) (hdd : 68 ≤ d) {sh : List jH} {R : Nat → Nat → Option Nat} {t : Nat} (hT : jReg shX6 sh t) {a1 : Int32} {Q : Int32 → (Nat → Nat → Int32) → Prop} {K23 : (Nat → Nat → Int32) → Int32 → Int32 → Prop} (hK23 : ∀ (V : Nat → Nat → Int32) (x2 : Int32) (x3 : Int32), K23 V x2 x3 → J G l MX6_read d c n 23 [(0, .ref t), (1, .int a1), (2, .int x2), (3, .int x3)] [] (mk sh V R) (jWr sh R Q) jNo) {V : Nat → Nat → Int32} {x2 : Int32} {x3 : Int32} (hw : wX6_read_80 t sh R a1 Q K23 V x2 x3) : J G l MX6_read d c n 80 [(0, .ref t), (1, .int a1), (2, .int x2), (3, .int x3)] [] (mk sh V R) (jWr sh R Q) jNo := by
  unfold wX6_read_80 at hw
  refine J.iincN 3 (K := (1 : Int32)) (lv' := fun y80 => [(3, .int y80), (0, .ref t), (1, .int a1), (2, .int x2)]) dX6_read_80 rfl (by decide) (by decide) (fun _ => rfl) hw (fun y80 hw => ?_)
  refine J.aload_n 1 dX6_read_83 rfl ?_
  refine uX6_97 rfl htr hT dX6_read_84 (by omega) (Nat.le_of_ble_eq_true rfl) hw ?_
  clear hw
  intro V84 hw
  refine J.aload_n 1 dX6_read_87 rfl ?_
  refine fgX6_25 rfl hT dX6_read_88 ?_
  refine J.iconst (v := (-1 : Int32)) dX6_read_91 (by decide) ?_
  refine J.icmp_ne 106 dX6_read_92 (by decide) ⟨fun c92 => ?_, fun c92 => ?_⟩
  · obtain ⟨hw, -⟩ := hw
    specialize hw c92
    refine J.iconst (v := (0 : Int32)) dX6_read_106 (by decide) ?_
    refine J.istore_n (lv' := [(2, .int (0 : Int32)), (3, .int y80), (0, .ref t), (1, .int a1)]) dX6_read_107 (by decide) rfl ?_
    refine J.goto 23 dX6_read_108 (by decide) ?_
    exact J.pick [2, 3, 0, 1] rfl (hK23 _ _ _ hw)
  · obtain ⟨-, hw⟩ := hw
    specialize hw c92
    refine J.aload_n 1 dX6_read_95 rfl ?_
    refine fgX6_87 rfl hT dX6_read_96 ?_
    refine J.aload_n 1 dX6_read_99 rfl ?_
    refine fgX6_90 rfl hT dX6_read_100 ?_
    refine J.icmp_ne 111 dX6_read_103 (by decide) ⟨fun c103 => ?_, fun c103 => ?_⟩
    · obtain ⟨hw, -⟩ := hw
      specialize hw c103
      refine J.aload_n 1 dX6_read_111 rfl ?_
      refine J.bipush (v := (59 : Int32)) dX6_read_112 (by decide) ?_
      refine uX6_188 rfl htr hT dX6_read_114 (by omega) (Nat.le_of_ble_eq_true rfl) hw ?_
      clear hw
      intro r114 V114 hw
      refine J.if_eq 133 dX6_read_117 (by decide) ⟨fun c117 => ?_, fun c117 => ?_⟩
      · obtain ⟨hw, -⟩ := hw
        specialize hw c117
        refine J.aload_n 1 dX6_read_133 rfl ?_
        refine J.aload_n 1 dX6_read_134 rfl ?_
        refine fgX6_87 rfl hT dX6_read_135 ?_
        refine uX6_113 rfl htr hT dX6_read_138 (by omega) (Nat.le_of_ble_eq_true rfl) hw ?_
        clear hw
        intro V138 hw
        refine J.goto 23 dX6_read_141 (by decide) ?_
        exact J.pick [1, 2, 3, 0] rfl (hK23 _ _ _ hw)
      · obtain ⟨-, hw⟩ := hw
        specialize hw c117
        refine J.aload_n 1 dX6_read_120 rfl ?_
        refine J.dup dX6_read_121 rfl ?_
        refine fgX6_87 rfl hT dX6_read_122 ?_
        refine J.iconst (v := (1 : Int32)) dX6_read_125 (by decide) ?_
        refine J.iadd dX6_read_126 ?_
        refine J.nm hw (fun y127 hw => ?_)
        refine fpX6_87 rfl hT dX6_read_127 ?_
        refine J.goto 23 dX6_read_130 (by decide) ?_
        exact J.pick [1, 2, 3, 0] rfl (hK23 _ _ _ hw)
    · obtain ⟨-, hw⟩ := hw
      specialize hw c103
      refine J.iconst (v := (0 : Int32)) dX6_read_106 (by decide) ?_
      refine J.istore_n (lv' := [(2, .int (0 : Int32)), (3, .int y80), (0, .ref t), (1, .int a1)]) dX6_read_107 (by decide) rfl ?_
      refine J.goto 23 dX6_read_108 (by decide) ?_
      exact J.pick [2, 3, 0, 1] rfl (hK23 _ _ _ hw)
def wX6_read_51 (t : Nat) (sh : List jH) (R : Nat → Nat → Option Nat) (a1 : Int32) (Q : Int32 → (Nat → Nat → Int32) → Prop) (K23 : (Nat → Nat → Int32) → Int32 → Int32 → Prop) (V : Nat → Nat → Int32) (x2 : Int32) (x3 : Int32) (s0 : Int32) (s1 : Int32) : Prop :=
  ((¬ s0 = s1 → ((a1 = 0 → (wX6_groundLine t sh R V (fun V77 => wX6_read_80 t sh R a1 Q K23 V77 x2 x3))) ∧ (¬ a1 = 0 → (wX6_lawLine t sh R V (fun V70 => wX6_read_80 t sh R a1 Q K23 V70 x2 x3))))) ∧ (s0 = s1 → (wX6_wrong t V (V t 11) (fun V59 => wX6_read_80 t sh R a1 Q K23 V59 x2 x3))))
theorem rX6_read_51 {G : jG} {l : Launch} {d : Nat} {c n : Nat} (htr : l.stackTraces = false) (hdd : 68 ≤ d) {sh : List jH} {R : Nat → Nat → Option Nat} {t : Nat} (hT : jReg shX6 sh t) {a1 : Int32} {Q : Int32 → (Nat → Nat → Int32) → Prop} {K23 : (Nat → Nat → Int32) → Int32 → Int32 → Prop} (hK23 : ∀ (V : Nat → Nat → Int32) (x2 : Int32) (x3 : Int32), K23 V x2 x3 → J G l MX6_read d c n 23 [(0, .ref t), (1, .int a1), (2, .int x2), (3, .int x3)] [] (mk sh V R) (jWr sh R Q) jNo) {V : Nat → Nat → Int32} {x2 : Int32} {x3 : Int32} {s0 : Int32} {s1 : Int32} (hw : wX6_read_51 t sh R a1 Q K23 V x2 x3 s0 s1) : J G l MX6_read d c n 51 [(0, .ref t), (1, .int a1), (2, .int x2), (3, .int x3)] [.int s1, .int s0] (mk sh V R) (jWr sh R Q) jNo := by
  unfold wX6_read_51 at hw
  refine J.icmp_ne 65 dX6_read_51 (by decide) ⟨fun c51 => ?_, fun c51 => ?_⟩
  · obtain ⟨hw, -⟩ := hw
    specialize hw c51
    refine J.iload_n 1 dX6_read_65 rfl ?_
    refine J.if_eq 76 dX6_read_66 (by decide) ⟨fun c66 => ?_, fun c66 => ?_⟩
    · obtain ⟨hw, -⟩ := hw
      specialize hw c66
      refine J.aload_n 0 dX6_read_76 rfl ?_
      refine uX6_185 rfl htr hT dX6_read_77 (by omega) (Nat.le_of_ble_eq_true rfl) hw ?_
      clear hw
      intro V77 hw
      exact (rX6_read_80 htr hdd hT hK23 hw)
    · obtain ⟨-, hw⟩ := hw
      specialize hw c66
      refine J.aload_n 0 dX6_read_69 rfl ?_
      refine uX6_182 rfl htr hT dX6_read_70 (by omega) (Nat.le_of_ble_eq_true rfl) hw ?_
      clear hw
      intro V70 hw
      refine J.goto 80 dX6_read_73 (by decide) ?_
      exact (rX6_read_80 htr hdd hT hK23 hw)
  · obtain ⟨-, hw⟩ := hw
    specialize hw c51
    refine J.aload_n 0 dX6_read_54 rfl ?_
    refine J.aload_n 0 dX6_read_55 rfl ?_
    refine fgX6_87 rfl hT dX6_read_56 ?_
    refine uX6_113 rfl htr hT dX6_read_59 (by omega) (Nat.le_of_ble_eq_true rfl) hw ?_
    clear hw
    intro V59 hw
    refine J.goto 80 dX6_read_62 (by decide) ?_
    exact (rX6_read_80 htr hdd hT hK23 hw)
def wX6_read_23 (t : Nat) (sh : List jH) (R : Nat → Nat → Option Nat) (a1 : Int32) (Q : Int32 → (Nat → Nat → Int32) → Prop) : Nat → (Nat → Nat → Int32) → Int32 → Int32 → Prop
  | 0, _, _, _ => False
  | f + 1, V, x2, x3 =>
    ((x2 = 0 → Q x3 V) ∧ (¬ x2 = 0 → ((¬ (V t 12) = (-1 : Int32) → Q x3 V) ∧ ((V t 12) = (-1 : Int32) → (wX6_skip t V (fun V36 => ((a1 = 0 → wX6_read_51 t sh R a1 Q (fun V x2 x3 => wX6_read_23 t sh R a1 Q f V x2 x3) V36 x2 x3 x3 (14 : Int32)) ∧ (¬ a1 = 0 → wX6_read_51 t sh R a1 Q (fun V x2 x3 => wX6_read_23 t sh R a1 Q f V x2 x3) V36 x2 x3 x3 (12 : Int32)))))))))
theorem rX6_read_23 {G : jG} {l : Launch} {d : Nat} {c n : Nat} (htr : l.stackTraces = false) (hdd : 68 ≤ d) {sh : List jH} {R : Nat → Nat → Option Nat} {t : Nat} (hT : jReg shX6 sh t) {a1 : Int32} {Q : Int32 → (Nat → Nat → Int32) → Prop} : ∀ (f : Nat) (V : Nat → Nat → Int32) (x2 : Int32) (x3 : Int32), wX6_read_23 t sh R a1 Q f V x2 x3 → J G l MX6_read d c n 23 [(0, .ref t), (1, .int a1), (2, .int x2), (3, .int x3)] [] (mk sh V R) (jWr sh R Q) jNo := by
  intro f
  induction f with
  | zero =>
    intro V x2 x3 hw
    rw [wX6_read_23] at hw
    exact hw.elim
  | succ f ih =>
    intro V x2 x3 hw
    rw [wX6_read_23] at hw
    refine J.iload_n 2 dX6_read_23 rfl ?_
    refine J.if_eq 144 dX6_read_24 (by decide) ⟨fun c24 => ?_, fun c24 => ?_⟩
    · obtain ⟨hw, -⟩ := hw
      specialize hw c24
      refine J.iload_n 3 dX6_read_144 rfl ?_
      exact J.iret rfl dX6_read_145 ⟨_, rfl, _, rfl, hw⟩
    · obtain ⟨-, hw⟩ := hw
      specialize hw c24
      refine J.aload_n 0 dX6_read_27 rfl ?_
      refine fgX6_25 rfl hT dX6_read_28 ?_
      refine J.iconst (v := (-1 : Int32)) dX6_read_31 (by decide) ?_
      refine J.icmp_ne 144 dX6_read_32 (by decide) ⟨fun c32 => ?_, fun c32 => ?_⟩
      · obtain ⟨hw, -⟩ := hw
        specialize hw c32
        refine J.iload_n 3 dX6_read_144 rfl ?_
        exact J.iret rfl dX6_read_145 ⟨_, rfl, _, rfl, hw⟩
      · obtain ⟨-, hw⟩ := hw
        specialize hw c32
        refine J.aload_n 0 dX6_read_35 rfl ?_
        refine uX6_97 rfl htr hT dX6_read_36 (by omega) (Nat.le_of_ble_eq_true rfl) hw ?_
        clear hw
        intro V36 hw
        refine J.iload_n 3 dX6_read_39 rfl ?_
        refine J.iload_n 1 dX6_read_40 rfl ?_
        refine J.if_eq 49 dX6_read_41 (by decide) ⟨fun c41 => ?_, fun c41 => ?_⟩
        · obtain ⟨hw, -⟩ := hw
          specialize hw c41
          refine J.bipush (v := (14 : Int32)) dX6_read_49 (by decide) ?_
          exact (rX6_read_51 htr hdd hT ih hw)
        · obtain ⟨-, hw⟩ := hw
          specialize hw c41
          refine J.bipush (v := (12 : Int32)) dX6_read_44 (by decide) ?_
          refine J.goto 51 dX6_read_46 (by decide) ?_
          exact (rX6_read_51 htr hdd hT ih hw)
def wX6_read (t : Nat) (sh : List jH) (R : Nat → Nat → Option Nat) (V : Nat → Nat → Int32) (a1 : Int32) (Q : Int32 → (Nat → Nat → Int32) → Prop) : Prop :=
  (wX6_skip t V (fun V1 => (((V1 t 10) ≤ (V1 t 11) → (∃ f9, wX6_read_23 t sh R a1 Q f9 V1 (0 : Int32) (0 : Int32))) ∧ (¬ (V1 t 10) ≤ (V1 t 11) → (∃ f9, wX6_read_23 t sh R a1 Q f9 V1 (1 : Int32) (0 : Int32))))))
theorem mX6_read {G : jG} {l : Launch} {d : Nat} (htr : l.stackTraces = false) (hdd : 68 ≤ d) {sh : List jH} {R : Nat → Nat → Option Nat} {V : Nat → Nat → Int32} {t : Nat} (hT : jReg shX6 sh t) {a1 : Int32} {Q : Int32 → (Nat → Nat → Int32) → Prop} (hw : wX6_read t sh R V a1 Q) : JM G l MX6_read d 0 0 [.ref t, .int a1] (mk sh V R) (jWr sh R Q) jNo := by
  refine JM.intro (by decide) rfl htr (Nat.le_of_ble_eq_true rfl) ?_
  show J G l MX6_read d 0 0 0 [(0, .ref t), (1, .int a1)] [] (mk sh V R) _ _
  unfold wX6_read at hw
  refine J.aload_n 0 dX6_read_0 rfl ?_
  refine uX6_97 rfl htr hT dX6_read_1 (by omega) (Nat.le_of_ble_eq_true rfl) hw ?_
  clear hw
  intro V1 hw
  refine J.aload_n 0 dX6_read_4 rfl ?_
  refine fgX6_87 rfl hT dX6_read_5 ?_
  refine J.aload_n 0 dX6_read_8 rfl ?_
  refine fgX6_90 rfl hT dX6_read_9 ?_
  refine J.icmp_ge 19 dX6_read_12 (by decide) ⟨fun c12 => ?_, fun c12 => ?_⟩
  · obtain ⟨hw, -⟩ := hw
    specialize hw c12
    refine J.iconst (v := (0 : Int32)) dX6_read_19 (by decide) ?_
    refine J.istore_n (lv' := [(2, .int (0 : Int32)), (0, .ref t), (1, .int a1)]) dX6_read_20 (by decide) rfl ?_
    refine J.iconst (v := (0 : Int32)) dX6_read_21 (by decide) ?_
    refine J.istore_n (lv' := [(3, .int (0 : Int32)), (2, .int (0 : Int32)), (0, .ref t), (1, .int a1)]) dX6_read_22 (by decide) rfl ?_
    obtain ⟨f9, hw⟩ := hw
    exact J.pick [2, 3, 1, 0] rfl (rX6_read_23 htr hdd hT f9 _ _ _ hw)
  · obtain ⟨-, hw⟩ := hw
    specialize hw c12
    refine J.iconst (v := (1 : Int32)) dX6_read_15 (by decide) ?_
    refine J.goto 20 dX6_read_16 (by decide) ?_
    refine J.istore_n (lv' := [(2, .int (1 : Int32)), (0, .ref t), (1, .int a1)]) dX6_read_20 (by decide) rfl ?_
    refine J.iconst (v := (0 : Int32)) dX6_read_21 (by decide) ?_
    refine J.istore_n (lv' := [(3, .int (0 : Int32)), (2, .int (1 : Int32)), (0, .ref t), (1, .int a1)]) dX6_read_22 (by decide) rfl ?_
    obtain ⟨f9, hw⟩ := hw
    exact J.pick [2, 3, 1, 0] rfl (rX6_read_23 htr hdd hT f9 _ _ _ hw)
theorem fgX6_54 {G : jG} {l : Launch} {M : jM} {d c n pc : Nat} {lv : List (Nat × Value)} {st : List Value} {sh : List jH} {V : Nat → Nat → Int32} {R : Nat → Nat → Option Nat} {post : Option Value → List jC → Prop} {xp : String → List jC → Prop} {t : Nat} (hM : M.1.cls = RX6) (hT : jReg shX6 sh t) (hd : decode M.2.1 pc = .ok (.getfield 54, 3)) (kk : J G l M d c n (pc + 3) lv (.int (V t 0) :: st) (mk sh V R) post xp) : J G l M d c n pc lv (.ref t :: st) (mk sh V R) post xp := JV.getf (C := RX6) (T0 := TX6) (N := 28) 0 hd hT.1 (hT.at 0 rfl) rfl in_X6 (by decide) (by rw [hM]; exact q2128) rfl rfl kk
theorem fpX6_54 {G : jG} {l : Launch} {M : jM} {d c n pc : Nat} {lv : List (Nat × Value)} {st : List Value} {sh : List jH} {V : Nat → Nat → Int32} {R : Nat → Nat → Option Nat} {post : Option Value → List jC → Prop} {xp : String → List jC → Prop} {t : Nat} (hM : M.1.cls = RX6) (hT : jReg shX6 sh t) {x9 : Int32} (hd : decode M.2.1 pc = .ok (.putfield 54, 3)) (kk : J G l M d c n (pc + 3) lv st (mk sh (vset V t 0 x9) R) post xp) : J G l M d c n pc lv (.int x9 :: .ref t :: st) (mk sh V R) post xp := JV.puti (C := RX6) (T0 := TX6) (N := 28) (o := 0) 0 hd hT.1 (hT.at 0 rfl) rfl in_X6 tyX6 tyX6_ok nmX6 (by decide) (by rw [hM]; exact q2128) rfl rfl (ji_put x9) rfl kk
theorem fpX6_205 {G : jG} {l : Launch} {M : jM} {d c n pc : Nat} {lv : List (Nat × Value)} {st : List Value} {sh : List jH} {V : Nat → Nat → Int32} {R : Nat → Nat → Option Nat} {post : Option Value → List jC → Prop} {xp : String → List jC → Prop} {t : Nat} (hM : M.1.cls = RX6) (hT : jReg shX6 sh t) {x9 : Int32} (hd : decode M.2.1 pc = .ok (.putfield 205, 3)) (kk : J G l M d c n (pc + 3) lv st (mk sh (vset V t 6 x9) R) post xp) : J G l M d c n pc lv (.int x9 :: .ref t :: st) (mk sh V R) post xp := JV.puti (C := RX6) (T0 := TX6) (N := 28) (o := 0) 6 hd hT.1 (hT.at 0 rfl) rfl in_X6 tyX6 tyX6_ok nmX6 (by decide) (by rw [hM]; exact q2134) rfl rfl (ji_put x9) rfl kk
abbrev MX6_ground : jM := (yX6_ground, cX6_ground, 2, some .int, [])
theorem uX6_192 {G : jG} {l : Launch} {M : jM} {d c n pc : Nat} {lv : List (Nat × Value)} {rest : List Value} {post : Option Value → List jC → Prop} {xp : String → List jC → Prop} (hM : M.1.cls = RX6) (htr : l.stackTraces = false) {sh : List jH} {V : Nat → Nat → Int32} {R : Nat → Nat → Option Nat} {t : Nat} (hT : jReg shX6 sh t) {Q : (Nat → Nat → Int32) → Prop} (hd : decode M.2.1 pc = .ok (.invokevirtual 192, 3)) (hdd : 0 + 1 ≤ d) (hw8 : (rest.map fun v => v.category).sum ≤ 8) (hw : wX6_putsAside t V Q) (kk : ∀ V', Q V' → J G l M d c n (pc + 3) lv rest (mk sh V' R) post xp) : J G l M d c n pc lv (.ref t :: rest) (mk sh V R) post xp := by
  exact J.callV (As := []) (hcw := by rw [hM]; exact lw_V q2233 q2235 qs69 q152 q2236) (mX6_putsAside htr hT hw) hd rfl ⟨5, _, _, mk_at (hT.at 0 rfl), rfl, rfl, fun _ => rfl⟩ ⟨rfl, by decide, by decide, by show _ = some 0; decide +kernel⟩ hw8 ⟨hdd, by decide⟩ jcc0 (fun r9 g9 h9 => by obtain ⟨V9, rfl, rfl, h⟩ := h9; exact kk V9 h) jNo.x
theorem uX6_195 {G : jG} {l : Launch} {M : jM} {d c n pc : Nat} {lv : List (Nat × Value)} {rest : List Value} {post : Option Value → List jC → Prop} {xp : String → List jC → Prop} (hM : M.1.cls = RX6) (htr : l.stackTraces = false) {sh : List jH} {V : Nat → Nat → Int32} {R : Nat → Nat → Option Nat} {t : Nat} (hT : jReg shX6 sh t) {Q : (Nat → Nat → Int32) → Prop} (hd : decode M.2.1 pc = .ok (.invokevirtual 195, 3)) (hdd : 0 + 1 ≤ d) (hw8 : (rest.map fun v => v.category).sum ≤ 8) (hw : wX6_begins t V Q) (kk : ∀ V', Q V' → J G l M d c n (pc + 3) lv rest (mk sh V' R) post xp) : J G l M d c n pc lv (.ref t :: rest) (mk sh V R) post xp := by
  exact J.callV (As := []) (hcw := by rw [hM]; exact lw_V q2237 q2239 qs70 q152 q2240) (mX6_begins htr hT hw) hd rfl ⟨5, _, _, mk_at (hT.at 0 rfl), rfl, rfl, fun _ => rfl⟩ ⟨rfl, by decide, by decide, by show _ = some 0; decide +kernel⟩ hw8 ⟨hdd, by decide⟩ jcc0 (fun r9 g9 h9 => by obtain ⟨V9, rfl, rfl, h⟩ := h9; exact kk V9 h) jNo.x
theorem uX6_198 {G : jG} {l : Launch} {M : jM} {d c n pc : Nat} {lv : List (Nat × Value)} {rest : List Value} {post : Option Value → List jC → Prop} {xp : String → List jC → Prop} (hM : M.1.cls = RX6) (htr : l.stackTraces = false) {sh : List jH} {V : Nat → Nat → Int32} {R : Nat → Nat → Option Nat} {t : Nat} (hT : jReg shX6 sh t) {a1 : Int32} {Q : Int32 → (Nat → Nat → Int32) → Prop} (hd : decode M.2.1 pc = .ok (.invokevirtual 198, 3)) (hdd : 68 + 1 ≤ d) (hw8 : (rest.map fun v => v.category).sum ≤ 8) (hw : wX6_read t sh R V a1 Q) (kk : ∀ r V', Q r V' → J G l M d c n (pc + 3) lv (.int r :: rest) (mk sh V' R) post xp) : J G l M d c n pc lv (.int a1 :: .ref t :: rest) (mk sh V R) post xp := by
  exact J.callV (As := [.int a1]) (hcw := by rw [hM]; exact lw_V q2241 q2243 qs71 q152 q2244) (mX6_read htr (Nat.le_refl _) hT hw) hd rfl ⟨5, _, _, mk_at (hT.at 0 rfl), rfl, rfl, fun _ => rfl⟩ ⟨rfl, by decide, by decide, by show _ = some 1; decide +kernel⟩ hw8 ⟨hdd, by decide⟩ jcc0 (fun r9 g9 h9 => by obtain ⟨V9, rfl, r, rfl, h⟩ := h9; exact kk r V9 h) jNo.x
theorem uX6_202 {G : jG} {l : Launch} {M : jM} {d c n pc : Nat} {lv : List (Nat × Value)} {rest : List Value} {post : Option Value → List jC → Prop} {xp : String → List jC → Prop} (hM : M.1.cls = RX6) (htr : l.stackTraces = false) {sh : List jH} {V : Nat → Nat → Int32} {R : Nat → Nat → Option Nat} {t : Nat} (hT : jReg shX6 sh t) {Q : (Nat → Nat → Int32) → Prop} (hd : decode M.2.1 pc = .ok (.invokevirtual 202, 3)) (hdd : 0 + 1 ≤ d) (hw8 : (rest.map fun v => v.category).sum ≤ 8) (hw : wX6_comesBack t V Q) (kk : ∀ V', Q V' → J G l M d c n (pc + 3) lv rest (mk sh V' R) post xp) : J G l M d c n pc lv (.ref t :: rest) (mk sh V R) post xp := by
  exact J.callV (As := []) (hcw := by rw [hM]; exact lw_V q2371 q2373 qs95 q152 q2374) (mX6_comesBack htr hT hw) hd rfl ⟨5, _, _, mk_at (hT.at 0 rfl), rfl, rfl, fun _ => rfl⟩ ⟨rfl, by decide, by decide, by show _ = some 0; decide +kernel⟩ hw8 ⟨hdd, by decide⟩ jcc0 (fun r9 g9 h9 => by obtain ⟨V9, rfl, rfl, h⟩ := h9; exact kk V9 h) jNo.x
-- VisitingHoursModel.ground()I
def wX6_ground_43 (t : Nat) (sh : List jH) (R : Nat → Nat → Option Nat) (Q : Int32 → (Nat → Nat → Int32) → Prop) (V : Nat → Nat → Int32) (s1 : Int32) : Prop :=
  ((((vset V t 0 s1) t 0) ≤ 0 → (∀ y68 : Int32, y68 = (((vset V t 0 s1) (t + 1) 0) + (1 : Int32)) → Q ((vset (vset (vset V t 0 s1) (t + 1) 0 y68) t 6 (0 : Int32)) (t + 1) 0) (vset (vset (vset V t 0 s1) (t + 1) 0 y68) t 6 (0 : Int32)))) ∧ (¬ ((vset V t 0 s1) t 0) ≤ 0 → (wX6_comesBack t (vset V t 0 s1) (fun V54 => Q (0 : Int32) V54))))
theorem rX6_ground_43 {G : jG} {l : Launch} {d : Nat} {c n : Nat} (htr : l.stackTraces = false) (hdd : 69 ≤ d) {sh : List jH} {R : Nat → Nat → Option Nat} {t : Nat} (hT : jReg shX6 sh t) {Q : Int32 → (Nat → Nat → Int32) → Prop} {V : Nat → Nat → Int32} {s1 : Int32} (hw : wX6_ground_43 t sh R Q V s1) : J G l MX6_ground d c n 43 [(0, .ref t)] [.int s1, .ref t] (mk sh V R) (jWr sh R Q) jNo := by
  unfold wX6_ground_43 at hw
  refine fpX6_54 rfl hT dX6_ground_43 ?_
  refine J.aload_n 0 dX6_ground_46 rfl ?_
  refine fgX6_54 rfl hT dX6_ground_47 ?_
  refine J.if_le 59 dX6_ground_50 (by decide) ⟨fun c50 => ?_, fun c50 => ?_⟩
  · obtain ⟨hw, -⟩ := hw
    specialize hw c50
    refine J.aload_n 0 dX6_ground_59 rfl ?_
    refine fgX6_7 rfl hT dX6_ground_60 ?_
    refine J.iconst (v := (0 : Int32)) dX6_ground_63 (by decide) ?_
    refine J.dup2 dX6_ground_64 rfl rfl ?_
    refine JV.ialdK 0 dX6_ground_65 (hT.ge 1) (hT.at 1 rfl) rfl (by decide) (by decide) ?_
    refine J.iconst (v := (1 : Int32)) dX6_ground_66 (by decide) ?_
    refine J.iadd dX6_ground_67 ?_
    refine J.nm hw (fun y68 hw => ?_)
    refine JV.iastK 0 dX6_ground_68 (hT.ge 1) (hT.at 1 rfl) rfl (by decide) (by decide) ?_
    refine J.aload_n 0 dX6_ground_69 rfl ?_
    refine J.iconst (v := (0 : Int32)) dX6_ground_70 (by decide) ?_
    refine fpX6_205 rfl hT dX6_ground_71 ?_
    refine J.aload_n 0 dX6_ground_74 rfl ?_
    refine fgX6_7 rfl hT dX6_ground_75 ?_
    refine J.iconst (v := (0 : Int32)) dX6_ground_78 (by decide) ?_
    refine JV.ialdK 0 dX6_ground_79 (hT.ge 1) (hT.at 1 rfl) rfl (by decide) (by decide) ?_
    exact J.iret rfl dX6_ground_80 ⟨_, rfl, _, rfl, hw⟩
  · obtain ⟨-, hw⟩ := hw
    specialize hw c50
    refine J.aload_n 0 dX6_ground_53 rfl ?_
    refine uX6_202 rfl htr hT dX6_ground_54 (by omega) (Nat.le_of_ble_eq_true rfl) hw ?_
    clear hw
    intro V54 hw
    refine J.iconst (v := (0 : Int32)) dX6_ground_57 (by decide) ?_
    exact J.iret rfl dX6_ground_58 ⟨_, rfl, _, rfl, hw⟩
def wX6_ground (t : Nat) (sh : List jH) (R : Nat → Nat → Option Nat) (V : Nat → Nat → Int32) (Q : Int32 → (Nat → Nat → Int32) → Prop) : Prop :=
  (wX6_putsAside t V (fun V1 => (wX6_begins t V1 (fun V5 => (wX6_read t sh R V5 (0 : Int32) (fun r10 V10 => (((V10 t 12) = (-1 : Int32) → ((¬ (V10 (t + 1) 0) = (12 : Int32) → wX6_ground_43 t sh R Q V10 (0 : Int32)) ∧ ((V10 (t + 1) 0) = (12 : Int32) → wX6_ground_43 t sh R Q V10 (2 : Int32)))) ∧ (¬ (V10 t 12) = (-1 : Int32) → wX6_ground_43 t sh R Q V10 (1 : Int32)))))))))
theorem mX6_ground {G : jG} {l : Launch} {d : Nat} (htr : l.stackTraces = false) (hdd : 69 ≤ d) {sh : List jH} {R : Nat → Nat → Option Nat} {V : Nat → Nat → Int32} {t : Nat} (hT : jReg shX6 sh t) {Q : Int32 → (Nat → Nat → Int32) → Prop} (hw : wX6_ground t sh R V Q) : JM G l MX6_ground d 0 0 [.ref t] (mk sh V R) (jWr sh R Q) jNo := by
  refine JM.intro (by decide) rfl htr (Nat.le_of_ble_eq_true rfl) ?_
  show J G l MX6_ground d 0 0 0 [(0, .ref t)] [] (mk sh V R) _ _
  unfold wX6_ground at hw
  refine J.aload_n 0 dX6_ground_0 rfl ?_
  refine uX6_192 rfl htr hT dX6_ground_1 (by omega) (Nat.le_of_ble_eq_true rfl) hw ?_
  clear hw
  intro V1 hw
  refine J.aload_n 0 dX6_ground_4 rfl ?_
  refine uX6_195 rfl htr hT dX6_ground_5 (by omega) (Nat.le_of_ble_eq_true rfl) hw ?_
  clear hw
  intro V5 hw
  refine J.aload_n 0 dX6_ground_8 rfl ?_
  refine J.iconst (v := (0 : Int32)) dX6_ground_9 (by decide) ?_
  refine uX6_198 rfl htr hT dX6_ground_10 (by omega) (Nat.le_of_ble_eq_true rfl) hw ?_
  clear hw
  intro r10 V10 hw
  refine J.istore_n (lv' := [(1, .int r10), (0, .ref t)]) dX6_ground_13 (by decide) rfl ?_
  refine J.aload_n 1 dX6_ground_14 rfl ?_
  refine J.aload_n 1 dX6_ground_15 rfl ?_
  refine fgX6_25 rfl hT dX6_ground_16 ?_
  refine J.iconst (v := (-1 : Int32)) dX6_ground_19 (by decide) ?_
  refine J.icmp_eq 27 dX6_ground_20 (by decide) ⟨fun c20 => ?_, fun c20 => ?_⟩
  · obtain ⟨hw, -⟩ := hw
    specialize hw c20
    refine J.aload_n 1 dX6_ground_27 rfl ?_
    refine fgX6_7 rfl hT dX6_ground_28 ?_
    refine J.iconst (v := (0 : Int32)) dX6_ground_31 (by decide) ?_
    refine JV.ialdK 0 dX6_ground_32 (hT.ge 1) (hT.at 1 rfl) rfl (by decide) (by decide) ?_
    refine J.bipush (v := (12 : Int32)) dX6_ground_33 (by decide) ?_
    refine J.icmp_ne 42 dX6_ground_35 (by decide) ⟨fun c35 => ?_, fun c35 => ?_⟩
    · obtain ⟨hw, -⟩ := hw
      specialize hw c35
      refine J.iconst (v := (0 : Int32)) dX6_ground_42 (by decide) ?_
      exact J.pick [1] rfl (rX6_ground_43 htr hdd hT hw)
    · obtain ⟨-, hw⟩ := hw
      specialize hw c35
      refine J.iconst (v := (2 : Int32)) dX6_ground_38 (by decide) ?_
      refine J.goto 43 dX6_ground_39 (by decide) ?_
      exact J.pick [1] rfl (rX6_ground_43 htr hdd hT hw)
  · obtain ⟨-, hw⟩ := hw
    specialize hw c20
    refine J.iconst (v := (1 : Int32)) dX6_ground_23 (by decide) ?_
    refine J.goto 43 dX6_ground_24 (by decide) ?_
    exact J.pick [1] rfl (rX6_ground_43 htr hdd hT hw)
theorem fgX6_22 {G : jG} {l : Launch} {M : jM} {d c n pc : Nat} {lv : List (Nat × Value)} {st : List Value} {sh : List jH} {V : Nat → Nat → Int32} {R : Nat → Nat → Option Nat} {post : Option Value → List jC → Prop} {xp : String → List jC → Prop} {t : Nat} (hM : M.1.cls = RX6) (hT : jReg shX6 sh t) (hd : decode M.2.1 pc = .ok (.getfield 22, 3)) (kk : J G l M d c n (pc + 3) lv (.ref (t + 5) :: st) (mk sh V R) post xp) : J G l M d c n pc lv (.ref t :: st) (mk sh V R) post xp := JV.getf (C := RX6) (T0 := TX6) (N := 28) 7 hd hT.1 (hT.at 0 rfl) rfl in_X6 (by decide) (by rw [hM]; exact q2135) rfl rfl kk
abbrev MX6_law : jM := (yX6_law, cX6_law, 3, some .int, [])
-- VisitingHoursModel.law()I
def wX6_law_55 (t : Nat) (sh : List jH) (R : Nat → Nat → Option Nat) (Q : Int32 → (Nat → Nat → Int32) → Prop) : Nat → (Nat → Nat → Int32) → Int32 → Int32 → Prop
  | 0, _, _, _ => False
  | f + 1, V, x1, x2 =>
    (((V t 10) ≤ x2 → Q x1 (vset V t 6 (0 : Int32))) ∧ (¬ (V t 10) ≤ x2 → (vp_in x2 400 ∧ (∀ y78 : Int32, y78 = (V (t + 5) x2.toNatClampNeg) → (vp_in ((619 : Int32) + x2) 1019 ∧ (∀ y79 : Int32, y79 = x2 + (1 : Int32) → wX6_law_55 t sh R Q f (vset V (t + 1) ((619 : Int32) + x2).toNatClampNeg y78) x1 y79))))))
theorem rX6_law_55 {G : jG} {l : Launch} {d : Nat} {c n : Nat} (htr : l.stackTraces = false) (hdd : 69 ≤ d) {sh : List jH} {R : Nat → Nat → Option Nat} {t : Nat} (hT : jReg shX6 sh t) {Q : Int32 → (Nat → Nat → Int32) → Prop} : ∀ (f : Nat) (V : Nat → Nat → Int32) (x1 : Int32) (x2 : Int32), wX6_law_55 t sh R Q f V x1 x2 → J G l MX6_law d c n 55 [(0, .ref t), (1, .int x1), (2, .int x2)] [] (mk sh V R) (jWr sh R Q) jNo := by
  intro f
  induction f with
  | zero =>
    intro V x1 x2 hw
    rw [wX6_law_55] at hw
    exact hw.elim
  | succ f ih =>
    intro V x1 x2 hw
    rw [wX6_law_55] at hw
    refine J.iload_n 2 dX6_law_55 rfl ?_
    refine J.aload_n 0 dX6_law_56 rfl ?_
    refine fgX6_90 rfl hT dX6_law_57 ?_
    refine J.icmp_ge 85 dX6_law_60 (by decide) ⟨fun c60 => ?_, fun c60 => ?_⟩
    · obtain ⟨hw, -⟩ := hw
      specialize hw c60
      refine J.aload_n 0 dX6_law_85 rfl ?_
      refine J.iconst (v := (0 : Int32)) dX6_law_86 (by decide) ?_
      refine fpX6_205 rfl hT dX6_law_87 ?_
      refine J.iload_n 1 dX6_law_90 rfl ?_
      exact J.iret rfl dX6_law_91 ⟨_, rfl, _, rfl, hw⟩
    · obtain ⟨-, hw⟩ := hw
      specialize hw c60
      refine J.aload_n 0 dX6_law_63 rfl ?_
      refine fgX6_7 rfl hT dX6_law_64 ?_
      refine J.sipush (v := (619 : Int32)) dX6_law_67 (by decide) ?_
      refine J.iload_n 2 dX6_law_70 rfl ?_
      refine J.iadd dX6_law_71 ?_
      refine J.aload_n 0 dX6_law_72 rfl ?_
      refine fgX6_22 rfl hT dX6_law_73 ?_
      refine J.iload_n 2 dX6_law_76 rfl ?_
      obtain ⟨h77, hw⟩ := hw
      refine JV.iald dX6_law_77 (hT.ge 5) (hT.at 5 rfl) h77 ?_
      refine J.nm hw (fun y78 hw => ?_)
      obtain ⟨h78, hw⟩ := hw
      refine JV.iast dX6_law_78 (hT.ge 1) (hT.at 1 rfl) h78 ?_
      refine J.iincN 2 (K := (1 : Int32)) (lv' := fun y79 => [(2, .int y79), (0, .ref t), (1, .int x1)]) dX6_law_79 rfl (by decide) (by decide) (fun _ => rfl) hw (fun y79 hw => ?_)
      refine J.goto 55 dX6_law_82 (by decide) ?_
      exact J.pick [1, 2, 0] rfl (ih _ _ _ hw)
def wX6_law_24 (t : Nat) (sh : List jH) (R : Nat → Nat → Option Nat) (Q : Int32 → (Nat → Nat → Int32) → Prop) (V : Nat → Nat → Int32) (x1 : Int32) (s1 : Int32) : Prop :=
  ((((vset V t 0 s1) t 0) ≤ 0 → (∀ y52 : Int32, y52 = ((vset (vset V t 0 s1) (t + 1) 1 x1) t 10) → (∃ f9, wX6_law_55 t sh R Q f9 (vset (vset (vset V t 0 s1) (t + 1) 1 x1) (t + 1) 2 y52) x1 (0 : Int32)))) ∧ (¬ ((vset V t 0 s1) t 0) ≤ 0 → Q (0 : Int32) (vset V t 0 s1)))
theorem rX6_law_24 {G : jG} {l : Launch} {d : Nat} {c n : Nat} (htr : l.stackTraces = false) (hdd : 69 ≤ d) {sh : List jH} {R : Nat → Nat → Option Nat} {t : Nat} (hT : jReg shX6 sh t) {Q : Int32 → (Nat → Nat → Int32) → Prop} {V : Nat → Nat → Int32} {x1 : Int32} {s1 : Int32} (hw : wX6_law_24 t sh R Q V x1 s1) : J G l MX6_law d c n 24 [(0, .ref t), (1, .int x1)] [.int s1, .ref t] (mk sh V R) (jWr sh R Q) jNo := by
  unfold wX6_law_24 at hw
  refine fpX6_54 rfl hT dX6_law_24 ?_
  refine J.aload_n 0 dX6_law_27 rfl ?_
  refine fgX6_54 rfl hT dX6_law_28 ?_
  refine J.if_le 36 dX6_law_31 (by decide) ⟨fun c31 => ?_, fun c31 => ?_⟩
  · obtain ⟨hw, -⟩ := hw
    specialize hw c31
    refine J.aload_n 0 dX6_law_36 rfl ?_
    refine fgX6_7 rfl hT dX6_law_37 ?_
    refine J.iconst (v := (1 : Int32)) dX6_law_40 (by decide) ?_
    refine J.iload_n 1 dX6_law_41 rfl ?_
    refine JV.iastK 1 dX6_law_42 (hT.ge 1) (hT.at 1 rfl) rfl (by decide) (by decide) ?_
    refine J.aload_n 0 dX6_law_43 rfl ?_
    refine fgX6_7 rfl hT dX6_law_44 ?_
    refine J.iconst (v := (2 : Int32)) dX6_law_47 (by decide) ?_
    refine J.aload_n 0 dX6_law_48 rfl ?_
    refine fgX6_90 rfl hT dX6_law_49 ?_
    refine J.nm hw (fun y52 hw => ?_)
    refine JV.iastK 2 dX6_law_52 (hT.ge 1) (hT.at 1 rfl) rfl (by decide) (by decide) ?_
    refine J.iconst (v := (0 : Int32)) dX6_law_53 (by decide) ?_
    refine J.istore_n (lv' := [(2, .int (0 : Int32)), (0, .ref t), (1, .int x1)]) dX6_law_54 (by decide) rfl ?_
    obtain ⟨f9, hw⟩ := hw
    exact J.pick [1, 2, 0] rfl (rX6_law_55 htr hdd hT f9 _ _ _ hw)
  · obtain ⟨-, hw⟩ := hw
    specialize hw c31
    refine J.iconst (v := (0 : Int32)) dX6_law_34 (by decide) ?_
    exact J.iret rfl dX6_law_35 ⟨_, rfl, _, rfl, hw⟩
def wX6_law (t : Nat) (sh : List jH) (R : Nat → Nat → Option Nat) (V : Nat → Nat → Int32) (Q : Int32 → (Nat → Nat → Int32) → Prop) : Prop :=
  (wX6_begins t V (fun V1 => (wX6_read t sh R V1 (1 : Int32) (fun r6 V6 => (((V6 t 12) = (-1 : Int32) → wX6_law_24 t sh R Q V6 r6 (0 : Int32)) ∧ (¬ (V6 t 12) = (-1 : Int32) → wX6_law_24 t sh R Q V6 r6 (1 : Int32)))))))
theorem mX6_law {G : jG} {l : Launch} {d : Nat} (htr : l.stackTraces = false) (hdd : 69 ≤ d) {sh : List jH} {R : Nat → Nat → Option Nat} {V : Nat → Nat → Int32} {t : Nat} (hT : jReg shX6 sh t) {Q : Int32 → (Nat → Nat → Int32) → Prop} (hw : wX6_law t sh R V Q) : JM G l MX6_law d 0 0 [.ref t] (mk sh V R) (jWr sh R Q) jNo := by
  refine JM.intro (by decide) rfl htr (Nat.le_of_ble_eq_true rfl) ?_
  show J G l MX6_law d 0 0 0 [(0, .ref t)] [] (mk sh V R) _ _
  unfold wX6_law at hw
  refine J.aload_n 0 dX6_law_0 rfl ?_
  refine uX6_195 rfl htr hT dX6_law_1 (by omega) (Nat.le_of_ble_eq_true rfl) hw ?_
  clear hw
  intro V1 hw
  refine J.aload_n 0 dX6_law_4 rfl ?_
  refine J.iconst (v := (1 : Int32)) dX6_law_5 (by decide) ?_
  refine uX6_198 rfl htr hT dX6_law_6 (by omega) (Nat.le_of_ble_eq_true rfl) hw ?_
  clear hw
  intro r6 V6 hw
  refine J.istore_n (lv' := [(1, .int r6), (0, .ref t)]) dX6_law_9 (by decide) rfl ?_
  refine J.aload_n 1 dX6_law_10 rfl ?_
  refine J.aload_n 1 dX6_law_11 rfl ?_
  refine fgX6_25 rfl hT dX6_law_12 ?_
  refine J.iconst (v := (-1 : Int32)) dX6_law_15 (by decide) ?_
  refine J.icmp_eq 23 dX6_law_16 (by decide) ⟨fun c16 => ?_, fun c16 => ?_⟩
  · obtain ⟨hw, -⟩ := hw
    specialize hw c16
    refine J.iconst (v := (0 : Int32)) dX6_law_23 (by decide) ?_
    exact J.pick [1, 0] rfl (rX6_law_24 htr hdd hT hw)
  · obtain ⟨-, hw⟩ := hw
    specialize hw c16
    refine J.iconst (v := (1 : Int32)) dX6_law_19 (by decide) ?_
    refine J.goto 24 dX6_law_20 (by decide) ?_
    exact J.pick [1, 0] rfl (rX6_law_24 htr hdd hT hw)
theorem fpX6_25 {G : jG} {l : Launch} {M : jM} {d c n pc : Nat} {lv : List (Nat × Value)} {st : List Value} {sh : List jH} {V : Nat → Nat → Int32} {R : Nat → Nat → Option Nat} {post : Option Value → List jC → Prop} {xp : String → List jC → Prop} {t : Nat} (hM : M.1.cls = RX6) (hT : jReg shX6 sh t) {x9 : Int32} (hd : decode M.2.1 pc = .ok (.putfield 25, 3)) (kk : J G l M d c n (pc + 3) lv st (mk sh (vset V t 12 x9) R) post xp) : J G l M d c n pc lv (.int x9 :: .ref t :: st) (mk sh V R) post xp := JV.puti (C := RX6) (T0 := TX6) (N := 28) (o := 0) 12 hd hT.1 (hT.at 0 rfl) rfl in_X6 tyX6 tyX6_ok nmX6 (by decide) (by rw [hM]; exact q2140) rfl rfl (ji_put x9) rfl kk
theorem fpX6_84 {G : jG} {l : Launch} {M : jM} {d c n pc : Nat} {lv : List (Nat × Value)} {st : List Value} {sh : List jH} {V : Nat → Nat → Int32} {R : Nat → Nat → Option Nat} {post : Option Value → List jC → Prop} {xp : String → List jC → Prop} {t : Nat} (hM : M.1.cls = RX6) (hT : jReg shX6 sh t) {x9 : Int32} (hd : decode M.2.1 pc = .ok (.putfield 84, 3)) (kk : J G l M d c n (pc + 3) lv st (mk sh (vset V t 9 x9) R) post xp) : J G l M d c n pc lv (.int x9 :: .ref t :: st) (mk sh V R) post xp := JV.puti (C := RX6) (T0 := TX6) (N := 28) (o := 0) 9 hd hT.1 (hT.at 0 rfl) rfl in_X6 tyX6 tyX6_ok nmX6 (by decide) (by rw [hM]; exact q2137) rfl rfl (ji_put x9) rfl kk
theorem fpX6_90 {G : jG} {l : Launch} {M : jM} {d c n pc : Nat} {lv : List (Nat × Value)} {st : List Value} {sh : List jH} {V : Nat → Nat → Int32} {R : Nat → Nat → Option Nat} {post : Option Value → List jC → Prop} {xp : String → List jC → Prop} {t : Nat} (hM : M.1.cls = RX6) (hT : jReg shX6 sh t) {x9 : Int32} (hd : decode M.2.1 pc = .ok (.putfield 90, 3)) (kk : J G l M d c n (pc + 3) lv st (mk sh (vset V t 10 x9) R) post xp) : J G l M d c n pc lv (.int x9 :: .ref t :: st) (mk sh V R) post xp := JV.puti (C := RX6) (T0 := TX6) (N := 28) (o := 0) 10 hd hT.1 (hT.at 0 rfl) rfl in_X6 tyX6 tyX6_ok nmX6 (by decide) (by rw [hM]; exact q2138) rfl rfl (ji_put x9) rfl kk
theorem fpX6_221 {G : jG} {l : Launch} {M : jM} {d c n pc : Nat} {lv : List (Nat × Value)} {st : List Value} {sh : List jH} {V : Nat → Nat → Int32} {R : Nat → Nat → Option Nat} {post : Option Value → List jC → Prop} {xp : String → List jC → Prop} {t : Nat} (hM : M.1.cls = RX6) (hT : jReg shX6 sh t) {x9 : Int32} (hd : decode M.2.1 pc = .ok (.putfield 221, 3)) (hz : jz x9) (kk : J G l M d c n (pc + 3) lv st (mk sh (vset V t 15 x9) R) post xp) : J G l M d c n pc lv (.int x9 :: .ref t :: st) (mk sh V R) post xp := JV.puti (C := RX6) (T0 := TX6) (N := 28) (o := 0) 15 hd hT.1 (hT.at 0 rfl) rfl in_X6 tyX6 tyX6_ok nmX6 (by decide) (by rw [hM]; exact q2143) rfl rfl (jz_put hz) rfl kk
theorem fpX6_227 {G : jG} {l : Launch} {M : jM} {d c n pc : Nat} {lv : List (Nat × Value)} {st : List Value} {sh : List jH} {V : Nat → Nat → Int32} {R : Nat → Nat → Option Nat} {post : Option Value → List jC → Prop} {xp : String → List jC → Prop} {t : Nat} (hM : M.1.cls = RX6) (hT : jReg shX6 sh t) {x9 : Int32} (hd : decode M.2.1 pc = .ok (.putfield 227, 3)) (hz : jz x9) (kk : J G l M d c n (pc + 3) lv st (mk sh (vset V t 16 x9) R) post xp) : J G l M d c n pc lv (.int x9 :: .ref t :: st) (mk sh V R) post xp := JV.puti (C := RX6) (T0 := TX6) (N := 28) (o := 0) 16 hd hT.1 (hT.at 0 rfl) rfl in_X6 tyX6 tyX6_ok nmX6 (by decide) (by rw [hM]; exact q2144) rfl rfl (jz_put hz) rfl kk
abbrev MX6_asks : jM := (yX6_asks, cX6_asks, 6, none, [])
theorem uX6_61 {G : jG} {l : Launch} {M : jM} {d c n pc : Nat} {lv : List (Nat × Value)} {rest : List Value} {post : Option Value → List jC → Prop} {xp : String → List jC → Prop} (hM : M.1.cls = RX6) (htr : l.stackTraces = false) {sh : List jH} {V : Nat → Nat → Int32} {R : Nat → Nat → Option Nat} {t : Nat} (hT : jReg shX6 sh t) {a1 : Int32} {a2 : Int32} {Q : Int32 → Prop} (hd : decode M.2.1 pc = .ok (.invokevirtual 61, 3)) (hdd : 0 + 1 ≤ d) (hw8 : (rest.map fun v => v.category).sum ≤ 8) (hw : wX6_rankOf t V a1 a2 Q) (kk : ∀ r, Q r → J G l M d c n (pc + 3) lv (.int r :: rest) (mk sh V R) post xp) : J G l M d c n pc lv (.int a2 :: .int a1 :: .ref t :: rest) (mk sh V R) post xp := by
  exact J.callV (As := [.int a1, .int a2]) (hcw := by rw [hM]; exact lw_V q2431 q2433 qs106 q152 q2434) (mX6_rankOf htr hT hw) hd rfl ⟨5, _, _, mk_at (hT.at 0 rfl), rfl, rfl, fun _ => rfl⟩ ⟨rfl, by decide, by decide, by show _ = some 2; decide +kernel⟩ hw8 ⟨hdd, by decide⟩ jcc0 (fun r9 g9 h9 => by obtain ⟨rfl, r, rfl, h⟩ := h9; exact kk r h) jNo.x
theorem uX6_65 {G : jG} {l : Launch} {M : jM} {d c n pc : Nat} {lv : List (Nat × Value)} {rest : List Value} {post : Option Value → List jC → Prop} {xp : String → List jC → Prop} (hM : M.1.cls = RX6) (htr : l.stackTraces = false) {sh : List jH} {V : Nat → Nat → Int32} {R : Nat → Nat → Option Nat} {t : Nat} (hT : jReg shX6 sh t) {a1 : Int32} {a2 : Int32} {Q : Int32 → Prop} (hd : decode M.2.1 pc = .ok (.invokevirtual 65, 3)) (hdd : 0 + 1 ≤ d) (hw8 : (rest.map fun v => v.category).sum ≤ 8) (hw : wX6_lovedOf t V a1 a2 Q) (kk : ∀ r, Q r → J G l M d c n (pc + 3) lv (.int r :: rest) (mk sh V R) post xp) : J G l M d c n pc lv (.int a2 :: .int a1 :: .ref t :: rest) (mk sh V R) post xp := by
  exact J.callV (As := [.int a1, .int a2]) (hcw := by rw [hM]; exact lw_V q2443 q2445 qs108 q152 q2446) (mX6_lovedOf htr hT hw) hd rfl ⟨5, _, _, mk_at (hT.at 0 rfl), rfl, rfl, fun _ => rfl⟩ ⟨rfl, by decide, by decide, by show _ = some 2; decide +kernel⟩ hw8 ⟨hdd, by decide⟩ jcc0 (fun r9 g9 h9 => by obtain ⟨rfl, r, rfl, h⟩ := h9; exact kk r h) jNo.x
theorem uX6_68 {G : jG} {l : Launch} {M : jM} {d c n pc : Nat} {lv : List (Nat × Value)} {rest : List Value} {post : Option Value → List jC → Prop} {xp : String → List jC → Prop} (hM : M.1.cls = RX6) (htr : l.stackTraces = false) {sh : List jH} {V : Nat → Nat → Int32} {R : Nat → Nat → Option Nat} {t : Nat} (hT : jReg shX6 sh t) {a1 : Int32} {a2 : Int32} {Q : Int32 → Prop} (hd : decode M.2.1 pc = .ok (.invokevirtual 68, 3)) (hdd : 0 + 1 ≤ d) (hw8 : (rest.map fun v => v.category).sum ≤ 8) (hw : wX6_of t V a1 a2 Q) (kk : ∀ r, Q r → J G l M d c n (pc + 3) lv (.int r :: rest) (mk sh V R) post xp) : J G l M d c n pc lv (.int a2 :: .int a1 :: .ref t :: rest) (mk sh V R) post xp := by
  exact J.callV (As := [.int a1, .int a2]) (hcw := by rw [hM]; exact lw_V q2391 q2393 qs97 q152 q2394) (mX6_of htr hT hw) hd rfl ⟨5, _, _, mk_at (hT.at 0 rfl), rfl, rfl, fun _ => rfl⟩ ⟨rfl, by decide, by decide, by show _ = some 2; decide +kernel⟩ hw8 ⟨hdd, by decide⟩ jcc0 (fun r9 g9 h9 => by obtain ⟨rfl, r, rfl, h⟩ := h9; exact kk r h) jNo.x
theorem uX6_71 {G : jG} {l : Launch} {M : jM} {d c n pc : Nat} {lv : List (Nat × Value)} {rest : List Value} {post : Option Value → List jC → Prop} {xp : String → List jC → Prop} (hM : M.1.cls = RX6) (htr : l.stackTraces = false) {sh : List jH} {V : Nat → Nat → Int32} {R : Nat → Nat → Option Nat} {t : Nat} (hT : jReg shX6 sh t) {a1 : Int32} {a2 : Int32} {Q : Int32 → Prop} (hd : decode M.2.1 pc = .ok (.invokevirtual 71, 3)) (hdd : 0 + 1 ≤ d) (hw8 : (rest.map fun v => v.category).sum ≤ 8) (hw : wX6_ofGuest t V a1 a2 Q) (kk : ∀ r, Q r → J G l M d c n (pc + 3) lv (.int r :: rest) (mk sh V R) post xp) : J G l M d c n pc lv (.int a2 :: .int a1 :: .ref t :: rest) (mk sh V R) post xp := by
  exact J.callV (As := [.int a1, .int a2]) (hcw := by rw [hM]; exact lw_V q2419 q2421 qs103 q152 q2422) (mX6_ofGuest htr hT hw) hd rfl ⟨5, _, _, mk_at (hT.at 0 rfl), rfl, rfl, fun _ => rfl⟩ ⟨rfl, by decide, by decide, by show _ = some 2; decide +kernel⟩ hw8 ⟨hdd, by decide⟩ jcc0 (fun r9 g9 h9 => by obtain ⟨rfl, r, rfl, h⟩ := h9; exact kk r h) jNo.x
theorem uX6_268 {G : jG} {l : Launch} {M : jM} {d c n pc : Nat} {lv : List (Nat × Value)} {rest : List Value} {post : Option Value → List jC → Prop} {xp : String → List jC → Prop} (hM : M.1.cls = RX6) (htr : l.stackTraces = false) {sh : List jH} {V : Nat → Nat → Int32} {R : Nat → Nat → Option Nat} {t : Nat} (hT : jReg shX6 sh t) {a1 : Int32} {Q : Int32 → Prop} (hd : decode M.2.1 pc = .ok (.invokevirtual 268, 3)) (hdd : 0 + 1 ≤ d) (hw8 : (rest.map fun v => v.category).sum ≤ 8) (hw : wX6_passes t V a1 Q) (kk : ∀ r, Q r → J G l M d c n (pc + 3) lv (.int r :: rest) (mk sh V R) post xp) : J G l M d c n pc lv (.int a1 :: .ref t :: rest) (mk sh V R) post xp := by
  exact J.callV (As := [.int a1]) (hcw := by rw [hM]; exact lw_V q2435 q2437 qs107 q152 q2438) (mX6_passes htr hT hw) hd rfl ⟨5, _, _, mk_at (hT.at 0 rfl), rfl, rfl, fun _ => rfl⟩ ⟨rfl, by decide, by decide, by show _ = some 1; decide +kernel⟩ hw8 ⟨hdd, by decide⟩ jcc0 (fun r9 g9 h9 => by obtain ⟨rfl, r, rfl, h⟩ := h9; exact kk r h) jNo.x
theorem uX6_271 {G : jG} {l : Launch} {M : jM} {d c n pc : Nat} {lv : List (Nat × Value)} {rest : List Value} {post : Option Value → List jC → Prop} {xp : String → List jC → Prop} (hM : M.1.cls = RX6) (htr : l.stackTraces = false) {sh : List jH} {V : Nat → Nat → Int32} {R : Nat → Nat → Option Nat} {t : Nat} (hT : jReg shX6 sh t) {a1 : Int32} {a2 : Int32} {Q : Int32 → Prop} (hd : decode M.2.1 pc = .ok (.invokevirtual 271, 3)) (hdd : 0 + 1 ≤ d) (hw8 : (rest.map fun v => v.category).sum ≤ 8) (hw : wX6_bookedIn t V a1 a2 Q) (kk : ∀ r, Q r → J G l M d c n (pc + 3) lv (.int r :: rest) (mk sh V R) post xp) : J G l M d c n pc lv (.int a2 :: .int a1 :: .ref t :: rest) (mk sh V R) post xp := by
  exact J.callV (As := [.int a1, .int a2]) (hcw := by rw [hM]; exact lw_V q2399 q2401 qs99 q152 q2402) (mX6_bookedIn htr hT hw) hd rfl ⟨5, _, _, mk_at (hT.at 0 rfl), rfl, rfl, fun _ => rfl⟩ ⟨rfl, by decide, by decide, by show _ = some 2; decide +kernel⟩ hw8 ⟨hdd, by decide⟩ jcc0 (fun r9 g9 h9 => by obtain ⟨rfl, r, rfl, h⟩ := h9; exact kk r h) jNo.x
-- VisitingHoursModel.asks(III)V
def wX6_asks_127 (t : Nat) (sh : List jH) (R : Nat → Nat → Option Nat) (a1 : Int32) (a2 : Int32) (a3 : Int32) (Q : (Nat → Nat → Int32) → Prop) (V : Nat → Nat → Int32) (s1 : Int32) : Prop :=
  (jz s1 ∧ (∀ y134 : Int32, y134 = ((vset V t 16 s1) t 12) → (∀ y155 : Int32, y155 = ((vset (vset (vset V t 16 s1) t 12 (-1 : Int32)) t 9 (619 : Int32)) (t + 1) 2) → (wX6_read t sh R (vset (vset (vset (vset (vset (vset V t 16 s1) t 12 (-1 : Int32)) t 9 (619 : Int32)) t 10 y155) t 11 (0 : Int32)) t 13 (0 : Int32)) (1 : Int32) (fun r170 V170 => Q (vset V170 t 12 y134))))))
theorem rX6_asks_127 {G : jG} {l : Launch} {d : Nat} {c n : Nat} (htr : l.stackTraces = false) (hdd : 69 ≤ d) {sh : List jH} {R : Nat → Nat → Option Nat} {t : Nat} (hT : jReg shX6 sh t) {a1 : Int32} {a2 : Int32} {a3 : Int32} {Q : (Nat → Nat → Int32) → Prop} {V : Nat → Nat → Int32} {s1 : Int32} (hw : wX6_asks_127 t sh R a1 a2 a3 Q V s1) : J G l MX6_asks d c n 127 [(0, .ref t)] [.int s1, .ref t] (mk sh V R) (jWv sh R Q) jNo := by
  unfold wX6_asks_127 at hw
  obtain ⟨h127, hw⟩ := hw
  refine fpX6_227 rfl hT dX6_asks_127 h127 ?_
  refine J.aload_n 0 dX6_asks_130 rfl ?_
  refine fgX6_25 rfl hT dX6_asks_131 ?_
  refine J.nm hw (fun y134 hw => ?_)
  refine J.istore (lv' := [(4, .int y134), (0, .ref t)]) dX6_asks_134 (by decide) rfl ?_
  refine J.aload_n 1 dX6_asks_136 rfl ?_
  refine J.iconst (v := (-1 : Int32)) dX6_asks_137 (by decide) ?_
  refine fpX6_25 rfl hT dX6_asks_138 ?_
  refine J.aload_n 1 dX6_asks_141 rfl ?_
  refine J.sipush (v := (619 : Int32)) dX6_asks_142 (by decide) ?_
  refine fpX6_84 rfl hT dX6_asks_145 ?_
  refine J.aload_n 1 dX6_asks_148 rfl ?_
  refine J.aload_n 1 dX6_asks_149 rfl ?_
  refine fgX6_7 rfl hT dX6_asks_150 ?_
  refine J.iconst (v := (2 : Int32)) dX6_asks_153 (by decide) ?_
  refine JV.ialdK 2 dX6_asks_154 (hT.ge 1) (hT.at 1 rfl) rfl (by decide) (by decide) ?_
  refine J.nm hw (fun y155 hw => ?_)
  refine fpX6_90 rfl hT dX6_asks_155 ?_
  refine J.aload_n 1 dX6_asks_158 rfl ?_
  refine J.iconst (v := (0 : Int32)) dX6_asks_159 (by decide) ?_
  refine fpX6_87 rfl hT dX6_asks_160 ?_
  refine J.aload_n 1 dX6_asks_163 rfl ?_
  refine J.iconst (v := (0 : Int32)) dX6_asks_164 (by decide) ?_
  refine fpX6_179 rfl hT dX6_asks_165 ?_
  refine J.aload_n 1 dX6_asks_168 rfl ?_
  refine J.iconst (v := (1 : Int32)) dX6_asks_169 (by decide) ?_
  refine uX6_198 rfl htr hT dX6_asks_170 (by omega) (Nat.le_of_ble_eq_true rfl) hw ?_
  clear hw
  intro r170 V170 hw
  refine J.istore (lv' := [(5, .int r170), (4, .int y134), (0, .ref t)]) dX6_asks_173 (by decide) rfl ?_
  refine J.aload_n 2 dX6_asks_175 rfl ?_
  refine J.iload 1 dX6_asks_176 rfl ?_
  refine fpX6_25 rfl hT dX6_asks_178 ?_
  exact J.vret rfl dX6_asks_181 ⟨_, rfl, rfl, hw⟩
def wX6_asks (t : Nat) (sh : List jH) (R : Nat → Nat → Option Nat) (V : Nat → Nat → Int32) (a1 : Int32) (a2 : Int32) (a3 : Int32) (Q : (Nat → Nat → Int32) → Prop) : Prop :=
  (wX6_ofGuest t (vset (vset (vset V t 17 (0 : Int32)) t 18 (0 : Int32)) t 19 (0 : Int32)) a2 (2 : Int32) (fun r20 => (wX6_passes t (vset (vset (vset V t 17 (0 : Int32)) t 18 (0 : Int32)) t 19 (0 : Int32)) r20 (fun r23 => (jz r23 ∧ (((1 : Int32) ≤ ((vset (vset (vset (vset V t 17 (0 : Int32)) t 18 (0 : Int32)) t 19 (0 : Int32)) t 15 r23) (t + 1) 1) → (wX6_of t (vset (vset (vset (vset (vset (vset (vset V t 17 (0 : Int32)) t 18 (0 : Int32)) t 19 (0 : Int32)) t 15 r23) (t + 6) 0 a1) (t + 6) 1 a2) (t + 6) 2 a3) a1 (3 : Int32) (fun r69 => (wX6_rankOf t (vset (vset (vset (vset (vset (vset (vset (vset V t 17 (0 : Int32)) t 18 (0 : Int32)) t 19 (0 : Int32)) t 15 r23) (t + 6) 0 a1) (t + 6) 1 a2) (t + 6) 2 a3) (t + 6) 3 r69) a1 a2 (fun r81 => (wX6_lovedOf t (vset (vset (vset (vset (vset (vset (vset (vset (vset V t 17 (0 : Int32)) t 18 (0 : Int32)) t 19 (0 : Int32)) t 15 r23) (t + 6) 0 a1) (t + 6) 1 a2) (t + 6) 2 a3) (t + 6) 3 r69) (t + 6) 4 r81) a1 a2 (fun r93 => (∀ y110 : Int32, y110 = ((vset (vset (vset (vset (vset (vset (vset (vset (vset (vset V t 17 (0 : Int32)) t 18 (0 : Int32)) t 19 (0 : Int32)) t 15 r23) (t + 6) 0 a1) (t + 6) 1 a2) (t + 6) 2 a3) (t + 6) 3 r69) (t + 6) 4 r81) (t + 6) 5 r93) (t + 1) 6) → (wX6_bookedIn t (vset (vset (vset (vset (vset (vset (vset (vset (vset (vset (vset V t 17 (0 : Int32)) t 18 (0 : Int32)) t 19 (0 : Int32)) t 15 r23) (t + 6) 0 a1) (t + 6) 1 a2) (t + 6) 2 a3) (t + 6) 3 r69) (t + 6) 4 r81) (t + 6) 5 r93) (t + 6) 6 y110) a1 a3 (fun r115 => ((¬ r115 = a2 → wX6_asks_127 t sh R a1 a2 a3 Q (vset (vset (vset (vset (vset (vset (vset (vset (vset (vset (vset V t 17 (0 : Int32)) t 18 (0 : Int32)) t 19 (0 : Int32)) t 15 r23) (t + 6) 0 a1) (t + 6) 1 a2) (t + 6) 2 a3) (t + 6) 3 r69) (t + 6) 4 r81) (t + 6) 5 r93) (t + 6) 6 y110) (0 : Int32)) ∧ (r115 = a2 → wX6_asks_127 t sh R a1 a2 a3 Q (vset (vset (vset (vset (vset (vset (vset (vset (vset (vset (vset V t 17 (0 : Int32)) t 18 (0 : Int32)) t 19 (0 : Int32)) t 15 r23) (t + 6) 0 a1) (t + 6) 1 a2) (t + 6) 2 a3) (t + 6) 3 r69) (t + 6) 4 r81) (t + 6) 5 r93) (t + 6) 6 y110) (1 : Int32))))))))))))) ∧ (¬ (1 : Int32) ≤ ((vset (vset (vset (vset V t 17 (0 : Int32)) t 18 (0 : Int32)) t 19 (0 : Int32)) t 15 r23) (t + 1) 1) → Q (vset (vset (vset (vset V t 17 (0 : Int32)) t 18 (0 : Int32)) t 19 (0 : Int32)) t 15 r23))))))))
theorem mX6_asks {G : jG} {l : Launch} {d : Nat} (htr : l.stackTraces = false) (hdd : 69 ≤ d) {sh : List jH} {R : Nat → Nat → Option Nat} {V : Nat → Nat → Int32} {t : Nat} (hT : jReg shX6 sh t) {a1 : Int32} {a2 : Int32} {a3 : Int32} {Q : (Nat → Nat → Int32) → Prop} (hw : wX6_asks t sh R V a1 a2 a3 Q) : JM G l MX6_asks d 0 0 [.ref t, .int a1, .int a2, .int a3] (mk sh V R) (jWv sh R Q) jNo := by
  refine JM.intro (by decide) rfl htr (Nat.le_of_ble_eq_true rfl) ?_
  show J G l MX6_asks d 0 0 0 [(0, .ref t), (1, .int a1), (2, .int a2), (3, .int a3)] [] (mk sh V R) _ _
  unfold wX6_asks at hw
  refine J.aload_n 0 dX6_asks_0 rfl ?_
  refine J.iconst (v := (0 : Int32)) dX6_asks_1 (by decide) ?_
  refine fpX6_266 rfl hT dX6_asks_2 ?_
  refine J.aload_n 0 dX6_asks_5 rfl ?_
  refine J.iconst (v := (0 : Int32)) dX6_asks_6 (by decide) ?_
  refine fpX6_260 rfl hT dX6_asks_7 jz0 ?_
  refine J.aload_n 0 dX6_asks_10 rfl ?_
  refine J.iconst (v := (0 : Int32)) dX6_asks_11 (by decide) ?_
  refine fpX6_263 rfl hT dX6_asks_12 jz0 ?_
  refine J.aload_n 0 dX6_asks_15 rfl ?_
  refine J.aload_n 0 dX6_asks_16 rfl ?_
  refine J.aload_n 0 dX6_asks_17 rfl ?_
  refine J.iload_n 2 dX6_asks_18 rfl ?_
  refine J.iconst (v := (2 : Int32)) dX6_asks_19 (by decide) ?_
  refine uX6_71 rfl htr hT dX6_asks_20 (by omega) (Nat.le_of_ble_eq_true rfl) hw ?_
  clear hw
  intro r20 hw
  refine uX6_268 rfl htr hT dX6_asks_23 (by omega) (Nat.le_of_ble_eq_true rfl) hw ?_
  clear hw
  intro r23 hw
  obtain ⟨h26, hw⟩ := hw
  refine fpX6_221 rfl hT dX6_asks_26 h26 ?_
  refine J.aload_n 0 dX6_asks_29 rfl ?_
  refine fgX6_7 rfl hT dX6_asks_30 ?_
  refine J.iconst (v := (1 : Int32)) dX6_asks_33 (by decide) ?_
  refine JV.ialdK 1 dX6_asks_34 (hT.ge 1) (hT.at 1 rfl) rfl (by decide) (by decide) ?_
  refine J.iconst (v := (1 : Int32)) dX6_asks_35 (by decide) ?_
  refine J.icmp_ge 40 dX6_asks_36 (by decide) ⟨fun c36 => ?_, fun c36 => ?_⟩
  · obtain ⟨hw, -⟩ := hw
    specialize hw c36
    refine J.aload_n 0 dX6_asks_40 rfl ?_
    refine fgX6_29 rfl hT dX6_asks_41 ?_
    refine J.iconst (v := (0 : Int32)) dX6_asks_44 (by decide) ?_
    refine J.iload_n 1 dX6_asks_45 rfl ?_
    refine JV.iastK 0 dX6_asks_46 (hT.ge 6) (hT.at 6 rfl) rfl (by decide) (by decide) ?_
    refine J.aload_n 0 dX6_asks_47 rfl ?_
    refine fgX6_29 rfl hT dX6_asks_48 ?_
    refine J.iconst (v := (1 : Int32)) dX6_asks_51 (by decide) ?_
    refine J.iload_n 2 dX6_asks_52 rfl ?_
    refine JV.iastK 1 dX6_asks_53 (hT.ge 6) (hT.at 6 rfl) rfl (by decide) (by decide) ?_
    refine J.aload_n 0 dX6_asks_54 rfl ?_
    refine fgX6_29 rfl hT dX6_asks_55 ?_
    refine J.iconst (v := (2 : Int32)) dX6_asks_58 (by decide) ?_
    refine J.iload_n 3 dX6_asks_59 rfl ?_
    refine JV.iastK 2 dX6_asks_60 (hT.ge 6) (hT.at 6 rfl) rfl (by decide) (by decide) ?_
    refine J.aload_n 0 dX6_asks_61 rfl ?_
    refine fgX6_29 rfl hT dX6_asks_62 ?_
    refine J.iconst (v := (3 : Int32)) dX6_asks_65 (by decide) ?_
    refine J.aload_n 0 dX6_asks_66 rfl ?_
    refine J.iload_n 1 dX6_asks_67 rfl ?_
    refine J.iconst (v := (3 : Int32)) dX6_asks_68 (by decide) ?_
    refine uX6_68 rfl htr hT dX6_asks_69 (by omega) (Nat.le_of_ble_eq_true rfl) hw ?_
    clear hw
    intro r69 hw
    refine JV.iastK 3 dX6_asks_72 (hT.ge 6) (hT.at 6 rfl) rfl (by decide) (by decide) ?_
    refine J.aload_n 0 dX6_asks_73 rfl ?_
    refine fgX6_29 rfl hT dX6_asks_74 ?_
    refine J.iconst (v := (4 : Int32)) dX6_asks_77 (by decide) ?_
    refine J.aload_n 0 dX6_asks_78 rfl ?_
    refine J.iload_n 1 dX6_asks_79 rfl ?_
    refine J.iload_n 2 dX6_asks_80 rfl ?_
    refine uX6_61 rfl htr hT dX6_asks_81 (by omega) (Nat.le_of_ble_eq_true rfl) hw ?_
    clear hw
    intro r81 hw
    refine JV.iastK 4 dX6_asks_84 (hT.ge 6) (hT.at 6 rfl) rfl (by decide) (by decide) ?_
    refine J.aload_n 0 dX6_asks_85 rfl ?_
    refine fgX6_29 rfl hT dX6_asks_86 ?_
    refine J.iconst (v := (5 : Int32)) dX6_asks_89 (by decide) ?_
    refine J.aload_n 0 dX6_asks_90 rfl ?_
    refine J.iload_n 1 dX6_asks_91 rfl ?_
    refine J.iload_n 2 dX6_asks_92 rfl ?_
    refine uX6_65 rfl htr hT dX6_asks_93 (by omega) (Nat.le_of_ble_eq_true rfl) hw ?_
    clear hw
    intro r93 hw
    refine JV.iastK 5 dX6_asks_96 (hT.ge 6) (hT.at 6 rfl) rfl (by decide) (by decide) ?_
    refine J.aload_n 0 dX6_asks_97 rfl ?_
    refine fgX6_29 rfl hT dX6_asks_98 ?_
    refine J.bipush (v := (6 : Int32)) dX6_asks_101 (by decide) ?_
    refine J.aload_n 0 dX6_asks_103 rfl ?_
    refine fgX6_7 rfl hT dX6_asks_104 ?_
    refine J.bipush (v := (6 : Int32)) dX6_asks_107 (by decide) ?_
    refine JV.ialdK 6 dX6_asks_109 (hT.ge 1) (hT.at 1 rfl) rfl (by decide) (by decide) ?_
    refine J.nm hw (fun y110 hw => ?_)
    refine JV.iastK 6 dX6_asks_110 (hT.ge 6) (hT.at 6 rfl) rfl (by decide) (by decide) ?_
    refine J.aload_n 0 dX6_asks_111 rfl ?_
    refine J.aload_n 0 dX6_asks_112 rfl ?_
    refine J.iload_n 1 dX6_asks_113 rfl ?_
    refine J.iload_n 3 dX6_asks_114 rfl ?_
    refine uX6_271 rfl htr hT dX6_asks_115 (by omega) (Nat.le_of_ble_eq_true rfl) hw ?_
    clear hw
    intro r115 hw
    refine J.iload_n 2 dX6_asks_118 rfl ?_
    refine J.icmp_ne 126 dX6_asks_119 (by decide) ⟨fun c119 => ?_, fun c119 => ?_⟩
    · obtain ⟨hw, -⟩ := hw
      specialize hw c119
      refine J.iconst (v := (0 : Int32)) dX6_asks_126 (by decide) ?_
      exact J.pick [0] rfl (rX6_asks_127 htr hdd hT hw)
    · obtain ⟨-, hw⟩ := hw
      specialize hw c119
      refine J.iconst (v := (1 : Int32)) dX6_asks_122 (by decide) ?_
      refine J.goto 127 dX6_asks_123 (by decide) ?_
      exact J.pick [0] rfl (rX6_asks_127 htr hdd hT hw)
  · obtain ⟨-, hw⟩ := hw
    specialize hw c36
    exact J.vret rfl dX6_asks_39 ⟨_, rfl, rfl, hw⟩
abbrev MX6_isLet : jM := (yX6_isLet, cX6_isLet, 4, some .boolean, [])
theorem uX6_274 {G : jG} {l : Launch} {M : jM} {d c n pc : Nat} {lv : List (Nat × Value)} {rest : List Value} {post : Option Value → List jC → Prop} {xp : String → List jC → Prop} (hM : M.1.cls = RX6) (htr : l.stackTraces = false) {sh : List jH} {V : Nat → Nat → Int32} {R : Nat → Nat → Option Nat} {t : Nat} (hT : jReg shX6 sh t) {a1 : Int32} {a2 : Int32} {a3 : Int32} {Q : (Nat → Nat → Int32) → Prop} (hd : decode M.2.1 pc = .ok (.invokevirtual 274, 3)) (hdd : 69 + 1 ≤ d) (hw8 : (rest.map fun v => v.category).sum ≤ 8) (hw : wX6_asks t sh R V a1 a2 a3 Q) (kk : ∀ V', Q V' → J G l M d c n (pc + 3) lv rest (mk sh V' R) post xp) : J G l M d c n pc lv (.int a3 :: .int a2 :: .int a1 :: .ref t :: rest) (mk sh V R) post xp := by
  exact J.callV (As := [.int a1, .int a2, .int a3]) (hcw := by rw [hM]; exact lw_V q2478 q2480 qs113 q152 q2481) (mX6_asks htr (Nat.le_refl _) hT hw) hd rfl ⟨5, _, _, mk_at (hT.at 0 rfl), rfl, rfl, fun _ => rfl⟩ ⟨rfl, by decide, by decide, by show _ = some 3; decide +kernel⟩ hw8 ⟨hdd, by decide⟩ jcc0 (fun r9 g9 h9 => by obtain ⟨V9, rfl, rfl, h⟩ := h9; exact kk V9 h) jNo.x
-- VisitingHoursModel.isLet(III)Z
def wX6_isLet (t : Nat) (sh : List jH) (R : Nat → Nat → Option Nat) (V : Nat → Nat → Int32) (a1 : Int32) (a2 : Int32) (a3 : Int32) (Q : Int32 → (Nat → Nat → Int32) → Prop) : Prop :=
  (wX6_asks t sh R V a1 a2 a3 (fun V4 => (((V4 t 18) = 0 → (jz (V4 t 15) ∧ Q (V4 t 15) V4)) ∧ (¬ (V4 t 18) = 0 → (jz (V4 t 19) ∧ Q (V4 t 19) V4)))))
theorem mX6_isLet {G : jG} {l : Launch} {d : Nat} (htr : l.stackTraces = false) (hdd : 70 ≤ d) {sh : List jH} {R : Nat → Nat → Option Nat} {V : Nat → Nat → Int32} {t : Nat} (hT : jReg shX6 sh t) {a1 : Int32} {a2 : Int32} {a3 : Int32} {Q : Int32 → (Nat → Nat → Int32) → Prop} (hw : wX6_isLet t sh R V a1 a2 a3 Q) : JM G l MX6_isLet d 0 0 [.ref t, .int a1, .int a2, .int a3] (mk sh V R) (jWr sh R Q) jNo := by
  refine JM.intro (by decide) rfl htr (Nat.le_of_ble_eq_true rfl) ?_
  show J G l MX6_isLet d 0 0 0 [(0, .ref t), (1, .int a1), (2, .int a2), (3, .int a3)] [] (mk sh V R) _ _
  unfold wX6_isLet at hw
  refine J.aload_n 0 dX6_isLet_0 rfl ?_
  refine J.iload_n 1 dX6_isLet_1 rfl ?_
  refine J.iload_n 2 dX6_isLet_2 rfl ?_
  refine J.iload_n 3 dX6_isLet_3 rfl ?_
  refine uX6_274 rfl htr hT dX6_isLet_4 (by omega) (Nat.le_of_ble_eq_true rfl) hw ?_
  clear hw
  intro V4 hw
  refine J.aload_n 0 dX6_isLet_7 rfl ?_
  refine fgX6_260 rfl hT dX6_isLet_8 ?_
  refine J.if_eq 21 dX6_isLet_11 (by decide) ⟨fun c11 => ?_, fun c11 => ?_⟩
  · obtain ⟨hw, -⟩ := hw
    specialize hw c11
    refine J.aload_n 0 dX6_isLet_21 rfl ?_
    refine fgX6_221 rfl hT dX6_isLet_22 ?_
    exact J.zret rfl (jz_nar hw.1) dX6_isLet_25 ⟨_, rfl, _, rfl, hw.2⟩
  · obtain ⟨-, hw⟩ := hw
    specialize hw c11
    refine J.aload_n 0 dX6_isLet_14 rfl ?_
    refine fgX6_263 rfl hT dX6_isLet_15 ?_
    refine J.goto 25 dX6_isLet_18 (by decide) ?_
    exact J.zret rfl (jz_nar hw.1) dX6_isLet_25 ⟨_, rfl, _, rfl, hw.2⟩
abbrev MX6_lets : jM := (yX6_lets, cX6_lets, 4, some .boolean, [])
theorem uX6_283 {G : jG} {l : Launch} {M : jM} {d c n pc : Nat} {lv : List (Nat × Value)} {rest : List Value} {post : Option Value → List jC → Prop} {xp : String → List jC → Prop} (hM : M.1.cls = RX6) (htr : l.stackTraces = false) {sh : List jH} {V : Nat → Nat → Int32} {R : Nat → Nat → Option Nat} {t : Nat} (hT : jReg shX6 sh t) {a1 : Int32} {a2 : Int32} {a3 : Int32} {Q : Int32 → (Nat → Nat → Int32) → Prop} (hd : decode M.2.1 pc = .ok (.invokevirtual 283, 3)) (hdd : 70 + 1 ≤ d) (hw8 : (rest.map fun v => v.category).sum ≤ 8) (hw : wX6_isLet t sh R V a1 a2 a3 Q) (kk : ∀ r V', Q r V' → J G l M d c n (pc + 3) lv (.int r :: rest) (mk sh V' R) post xp) : J G l M d c n pc lv (.int a3 :: .int a2 :: .int a1 :: .ref t :: rest) (mk sh V R) post xp := by
  exact J.callV (As := [.int a1, .int a2, .int a3]) (hcw := by rw [hM]; exact lw_V q2474 q2476 qs112 q152 q2477) (mX6_isLet htr (Nat.le_refl _) hT hw) hd rfl ⟨5, _, _, mk_at (hT.at 0 rfl), rfl, rfl, fun _ => rfl⟩ ⟨rfl, by decide, by decide, by show _ = some 3; decide +kernel⟩ hw8 ⟨hdd, by decide⟩ jcc0 (fun r9 g9 h9 => by obtain ⟨V9, rfl, r, rfl, h⟩ := h9; exact kk r V9 h) jNo.x
theorem uX6_334 {G : jG} {l : Launch} {M : jM} {d c n pc : Nat} {lv : List (Nat × Value)} {rest : List Value} {post : Option Value → List jC → Prop} {xp : String → List jC → Prop} (hM : M.1.cls = RX6) (htr : l.stackTraces = false) {sh : List jH} {V : Nat → Nat → Int32} {R : Nat → Nat → Option Nat} {t : Nat} (hT : jReg shX6 sh t) {a1 : Int32} {a2 : Int32} {a3 : Int32} {Q : Int32 → (Nat → Nat → Int32) → Prop} (hd : decode M.2.1 pc = .ok (.invokevirtual 334, 3)) (hdd : 2 + 1 ≤ d) (hw8 : (rest.map fun v => v.category).sum ≤ 8) (hw : wX6_areThere t V a1 a2 a3 Q) (kk : ∀ r V', Q r V' → J G l M d c n (pc + 3) lv (.int r :: rest) (mk sh V' R) post xp) : J G l M d c n pc lv (.int a3 :: .int a2 :: .int a1 :: .ref t :: rest) (mk sh V R) post xp := by
  exact J.callV (As := [.int a1, .int a2, .int a3]) (hcw := by rw [hM]; exact lw_V q2458 q2460 qs109 q152 q2461) (mX6_areThere htr hT hw) hd rfl ⟨5, _, _, mk_at (hT.at 0 rfl), rfl, rfl, fun _ => rfl⟩ ⟨rfl, by decide, by decide, by show _ = some 3; decide +kernel⟩ hw8 ⟨hdd, by decide⟩ jcc0 (fun r9 g9 h9 => by obtain ⟨V9, rfl, r, rfl, h⟩ := h9; exact kk r V9 h) jNo.x
-- VisitingHoursModel.lets(III)Z
def wX6_lets (t : Nat) (sh : List jH) (R : Nat → Nat → Option Nat) (V : Nat → Nat → Int32) (a1 : Int32) (a2 : Int32) (a3 : Int32) (Q : Int32 → (Nat → Nat → Int32) → Prop) : Prop :=
  (wX6_areThere t V a1 a2 a3 (fun r4 V4 => ((r4 = 0 → Q (0 : Int32) V4) ∧ (¬ r4 = 0 → (wX6_isLet t sh R V4 a1 a2 a3 (fun r14 V14 => ((r14 = 0 → Q (0 : Int32) V14) ∧ (¬ r14 = 0 → Q (1 : Int32) V14))))))))
theorem mX6_lets {G : jG} {l : Launch} {d : Nat} (htr : l.stackTraces = false) (hdd : 71 ≤ d) {sh : List jH} {R : Nat → Nat → Option Nat} {V : Nat → Nat → Int32} {t : Nat} (hT : jReg shX6 sh t) {a1 : Int32} {a2 : Int32} {a3 : Int32} {Q : Int32 → (Nat → Nat → Int32) → Prop} (hw : wX6_lets t sh R V a1 a2 a3 Q) : JM G l MX6_lets d 0 0 [.ref t, .int a1, .int a2, .int a3] (mk sh V R) (jWr sh R Q) jNo := by
  refine JM.intro (by decide) rfl htr (Nat.le_of_ble_eq_true rfl) ?_
  show J G l MX6_lets d 0 0 0 [(0, .ref t), (1, .int a1), (2, .int a2), (3, .int a3)] [] (mk sh V R) _ _
  unfold wX6_lets at hw
  refine J.aload_n 0 dX6_lets_0 rfl ?_
  refine J.iload_n 1 dX6_lets_1 rfl ?_
  refine J.iload_n 2 dX6_lets_2 rfl ?_
  refine J.iload_n 3 dX6_lets_3 rfl ?_
  refine uX6_334 rfl htr hT dX6_lets_4 (by omega) (Nat.le_of_ble_eq_true rfl) hw ?_
  clear hw
  intro r4 V4 hw
  refine J.if_eq 24 dX6_lets_7 (by decide) ⟨fun c7 => ?_, fun c7 => ?_⟩
  · obtain ⟨hw, -⟩ := hw
    specialize hw c7
    refine J.iconst (v := (0 : Int32)) dX6_lets_24 (by decide) ?_
    exact J.zret rfl rfl dX6_lets_25 ⟨_, rfl, _, rfl, hw⟩
  · obtain ⟨-, hw⟩ := hw
    specialize hw c7
    refine J.aload_n 0 dX6_lets_10 rfl ?_
    refine J.iload_n 1 dX6_lets_11 rfl ?_
    refine J.iload_n 2 dX6_lets_12 rfl ?_
    refine J.iload_n 3 dX6_lets_13 rfl ?_
    refine uX6_283 rfl htr hT dX6_lets_14 (by omega) (Nat.le_of_ble_eq_true rfl) hw ?_
    clear hw
    intro r14 V14 hw
    refine J.if_eq 24 dX6_lets_17 (by decide) ⟨fun c17 => ?_, fun c17 => ?_⟩
    · obtain ⟨hw, -⟩ := hw
      specialize hw c17
      refine J.iconst (v := (0 : Int32)) dX6_lets_24 (by decide) ?_
      exact J.zret rfl rfl dX6_lets_25 ⟨_, rfl, _, rfl, hw⟩
    · obtain ⟨-, hw⟩ := hw
      specialize hw c17
      refine J.iconst (v := (1 : Int32)) dX6_lets_20 (by decide) ?_
      refine J.goto 25 dX6_lets_21 (by decide) ?_
      exact J.zret rfl rfl dX6_lets_25 ⟨_, rfl, _, rfl, hw⟩
abbrev MX6_joyOf : jM := (yX6_joyOf, cX6_joyOf, 4, some .int, [])
theorem uX6_277 {G : jG} {l : Launch} {M : jM} {d c n pc : Nat} {lv : List (Nat × Value)} {rest : List Value} {post : Option Value → List jC → Prop} {xp : String → List jC → Prop} (hM : M.1.cls = RX6) (htr : l.stackTraces = false) {sh : List jH} {V : Nat → Nat → Int32} {R : Nat → Nat → Option Nat} {a1 : Int32} {a2 : Int32} {Q : Int32 → Prop} (hd : decode M.2.1 pc = .ok (.invokestatic 277, 3)) (hdd : 0 + 1 ≤ d) (hw8 : (rest.map fun v => v.category).sum ≤ 8) (hw : wX6_greater a1 a2 Q) (kk : ∀ r, Q r → J G l M d c n (pc + 3) lv (.int r :: rest) (mk sh V R) post xp) : J G l M d c n pc lv (.int a2 :: .int a1 :: rest) (mk sh V R) post xp := by
  exact J.callS (As := [.int a1, .int a2]) (hcw := by rw [hM]; exact lw_S q2490 q2491 q152 q2492) (mX6_greater htr hw) hd rfl ⟨by decide, by decide, by show _ = some 2; decide +kernel⟩ hw8 ⟨hdd, by decide⟩ jcc0 (fun r9 g9 h9 => by obtain ⟨rfl, r, rfl, h⟩ := h9; exact kk r h) jNo.x
-- VisitingHoursModel.joyOf(III)I
def wX6_joyOf (t : Nat) (sh : List jH) (R : Nat → Nat → Option Nat) (V : Nat → Nat → Int32) (a1 : Int32) (a2 : Int32) (a3 : Int32) (Q : Int32 → (Nat → Nat → Int32) → Prop) : Prop :=
  (wX6_asks t sh R V a1 a2 a3 (fun V4 => (wX6_rankOf t V4 a1 a2 (fun r11 => (wX6_greater (0 : Int32) (r11 + (V4 t 17)) (fun r19 => Q r19 V4))))))
theorem mX6_joyOf {G : jG} {l : Launch} {d : Nat} (htr : l.stackTraces = false) (hdd : 70 ≤ d) {sh : List jH} {R : Nat → Nat → Option Nat} {V : Nat → Nat → Int32} {t : Nat} (hT : jReg shX6 sh t) {a1 : Int32} {a2 : Int32} {a3 : Int32} {Q : Int32 → (Nat → Nat → Int32) → Prop} (hw : wX6_joyOf t sh R V a1 a2 a3 Q) : JM G l MX6_joyOf d 0 0 [.ref t, .int a1, .int a2, .int a3] (mk sh V R) (jWr sh R Q) jNo := by
  refine JM.intro (by decide) rfl htr (Nat.le_of_ble_eq_true rfl) ?_
  show J G l MX6_joyOf d 0 0 0 [(0, .ref t), (1, .int a1), (2, .int a2), (3, .int a3)] [] (mk sh V R) _ _
  unfold wX6_joyOf at hw
  refine J.aload_n 0 dX6_joyOf_0 rfl ?_
  refine J.iload_n 1 dX6_joyOf_1 rfl ?_
  refine J.iload_n 2 dX6_joyOf_2 rfl ?_
  refine J.iload_n 3 dX6_joyOf_3 rfl ?_
  refine uX6_274 rfl htr hT dX6_joyOf_4 (by omega) (Nat.le_of_ble_eq_true rfl) hw ?_
  clear hw
  intro V4 hw
  refine J.iconst (v := (0 : Int32)) dX6_joyOf_7 (by decide) ?_
  refine J.aload_n 0 dX6_joyOf_8 rfl ?_
  refine J.iload_n 1 dX6_joyOf_9 rfl ?_
  refine J.iload_n 2 dX6_joyOf_10 rfl ?_
  refine uX6_61 rfl htr hT dX6_joyOf_11 (by omega) (Nat.le_of_ble_eq_true rfl) hw ?_
  clear hw
  intro r11 hw
  refine J.aload_n 0 dX6_joyOf_14 rfl ?_
  refine fgX6_266 rfl hT dX6_joyOf_15 ?_
  refine J.iadd dX6_joyOf_18 ?_
  refine uX6_277 rfl htr dX6_joyOf_19 (by omega) (Nat.le_of_ble_eq_true rfl) hw ?_
  clear hw
  intro r19 hw
  exact J.iret rfl dX6_joyOf_22 ⟨_, rfl, _, rfl, hw⟩
abbrev MX6_joy : jM := (yX6_joy, cX6_joy, 4, some .int, [])
theorem uX6_337 {G : jG} {l : Launch} {M : jM} {d c n pc : Nat} {lv : List (Nat × Value)} {rest : List Value} {post : Option Value → List jC → Prop} {xp : String → List jC → Prop} (hM : M.1.cls = RX6) (htr : l.stackTraces = false) {sh : List jH} {V : Nat → Nat → Int32} {R : Nat → Nat → Option Nat} {t : Nat} (hT : jReg shX6 sh t) {a1 : Int32} {a2 : Int32} {a3 : Int32} {Q : Int32 → (Nat → Nat → Int32) → Prop} (hd : decode M.2.1 pc = .ok (.invokevirtual 337, 3)) (hdd : 70 + 1 ≤ d) (hw8 : (rest.map fun v => v.category).sum ≤ 8) (hw : wX6_joyOf t sh R V a1 a2 a3 Q) (kk : ∀ r V', Q r V' → J G l M d c n (pc + 3) lv (.int r :: rest) (mk sh V' R) post xp) : J G l M d c n pc lv (.int a3 :: .int a2 :: .int a1 :: .ref t :: rest) (mk sh V R) post xp := by
  exact J.callV (As := [.int a1, .int a2, .int a3]) (hcw := by rw [hM]; exact lw_V q2486 q2488 qs114 q152 q2489) (mX6_joyOf htr (Nat.le_refl _) hT hw) hd rfl ⟨5, _, _, mk_at (hT.at 0 rfl), rfl, rfl, fun _ => rfl⟩ ⟨rfl, by decide, by decide, by show _ = some 3; decide +kernel⟩ hw8 ⟨hdd, by decide⟩ jcc0 (fun r9 g9 h9 => by obtain ⟨V9, rfl, r, rfl, h⟩ := h9; exact kk r V9 h) jNo.x
-- VisitingHoursModel.joy(III)I
def wX6_joy (t : Nat) (sh : List jH) (R : Nat → Nat → Option Nat) (V : Nat → Nat → Int32) (a1 : Int32) (a2 : Int32) (a3 : Int32) (Q : Int32 → (Nat → Nat → Int32) → Prop) : Prop :=
  (wX6_areThere t V a1 a2 a3 (fun r4 V4 => ((r4 = 0 → Q (0 : Int32) V4) ∧ (¬ r4 = 0 → (wX6_joyOf t sh R V4 a1 a2 a3 (fun r14 V14 => Q r14 V14))))))
theorem mX6_joy {G : jG} {l : Launch} {d : Nat} (htr : l.stackTraces = false) (hdd : 71 ≤ d) {sh : List jH} {R : Nat → Nat → Option Nat} {V : Nat → Nat → Int32} {t : Nat} (hT : jReg shX6 sh t) {a1 : Int32} {a2 : Int32} {a3 : Int32} {Q : Int32 → (Nat → Nat → Int32) → Prop} (hw : wX6_joy t sh R V a1 a2 a3 Q) : JM G l MX6_joy d 0 0 [.ref t, .int a1, .int a2, .int a3] (mk sh V R) (jWr sh R Q) jNo := by
  refine JM.intro (by decide) rfl htr (Nat.le_of_ble_eq_true rfl) ?_
  show J G l MX6_joy d 0 0 0 [(0, .ref t), (1, .int a1), (2, .int a2), (3, .int a3)] [] (mk sh V R) _ _
  unfold wX6_joy at hw
  refine J.aload_n 0 dX6_joy_0 rfl ?_
  refine J.iload_n 1 dX6_joy_1 rfl ?_
  refine J.iload_n 2 dX6_joy_2 rfl ?_
  refine J.iload_n 3 dX6_joy_3 rfl ?_
  refine uX6_334 rfl htr hT dX6_joy_4 (by omega) (Nat.le_of_ble_eq_true rfl) hw ?_
  clear hw
  intro r4 V4 hw
  refine J.if_eq 20 dX6_joy_7 (by decide) ⟨fun c7 => ?_, fun c7 => ?_⟩
  · obtain ⟨hw, -⟩ := hw
    specialize hw c7
    refine J.iconst (v := (0 : Int32)) dX6_joy_20 (by decide) ?_
    exact J.iret rfl dX6_joy_21 ⟨_, rfl, _, rfl, hw⟩
  · obtain ⟨-, hw⟩ := hw
    specialize hw c7
    refine J.aload_n 0 dX6_joy_10 rfl ?_
    refine J.iload_n 1 dX6_joy_11 rfl ?_
    refine J.iload_n 2 dX6_joy_12 rfl ?_
    refine J.iload_n 3 dX6_joy_13 rfl ?_
    refine uX6_337 rfl htr hT dX6_joy_14 (by omega) (Nat.le_of_ble_eq_true rfl) hw ?_
    clear hw
    intro r14 V14 hw
    refine J.goto 21 dX6_joy_17 (by decide) ?_
    exact J.iret rfl dX6_joy_21 ⟨_, rfl, _, rfl, hw⟩
abbrev MX6_wouldMeet : jM := (yX6_wouldMeet, cX6_wouldMeet, 4, some .boolean, [])
theorem uX6_280 {G : jG} {l : Launch} {M : jM} {d c n pc : Nat} {lv : List (Nat × Value)} {rest : List Value} {post : Option Value → List jC → Prop} {xp : String → List jC → Prop} (hM : M.1.cls = RX6) (htr : l.stackTraces = false) {sh : List jH} {V : Nat → Nat → Int32} {R : Nat → Nat → Option Nat} {t : Nat} (hT : jReg shX6 sh t) {a1 : Int32} {a2 : Int32} {a3 : Int32} {Q : Int32 → Prop} (hd : decode M.2.1 pc = .ok (.invokevirtual 280, 3)) (hdd : 2 + 1 ≤ d) (hw8 : (rest.map fun v => v.category).sum ≤ 8) (hw : wX6_canMeet t V a1 a2 a3 Q) (kk : ∀ r, Q r → J G l M d c n (pc + 3) lv (.int r :: rest) (mk sh V R) post xp) : J G l M d c n pc lv (.int a3 :: .int a2 :: .int a1 :: .ref t :: rest) (mk sh V R) post xp := by
  exact J.callV (As := [.int a1, .int a2, .int a3]) (hcw := by rw [hM]; exact lw_V q2462 q2464 qs110 q152 q2465) (mX6_canMeet htr hT hw) hd rfl ⟨5, _, _, mk_at (hT.at 0 rfl), rfl, rfl, fun _ => rfl⟩ ⟨rfl, by decide, by decide, by show _ = some 3; decide +kernel⟩ hw8 ⟨hdd, by decide⟩ jcc0 (fun r9 g9 h9 => by obtain ⟨rfl, r, rfl, h⟩ := h9; exact kk r h) jNo.x
-- VisitingHoursModel.wouldMeet(II)Z
def wX6_wouldMeet (t : Nat) (sh : List jH) (R : Nat → Nat → Option Nat) (V : Nat → Nat → Int32) (a1 : Int32) (a2 : Int32) (Q : Int32 → (Nat → Nat → Int32) → Prop) : Prop :=
  (wX6_bookedIn t V a1 a2 (fun r3 => ((r3 = (-1 : Int32) → Q (0 : Int32) V) ∧ (¬ r3 = (-1 : Int32) → (wX6_canMeet t V a1 r3 a2 (fun r16 => ((r16 = 0 → Q (0 : Int32) V) ∧ (¬ r16 = 0 → (wX6_isLet t sh R V a1 r3 a2 (fun r26 V26 => ((r26 = 0 → Q (0 : Int32) V26) ∧ (¬ r26 = 0 → Q (1 : Int32) V26))))))))))))
theorem mX6_wouldMeet {G : jG} {l : Launch} {d : Nat} (htr : l.stackTraces = false) (hdd : 71 ≤ d) {sh : List jH} {R : Nat → Nat → Option Nat} {V : Nat → Nat → Int32} {t : Nat} (hT : jReg shX6 sh t) {a1 : Int32} {a2 : Int32} {Q : Int32 → (Nat → Nat → Int32) → Prop} (hw : wX6_wouldMeet t sh R V a1 a2 Q) : JM G l MX6_wouldMeet d 0 0 [.ref t, .int a1, .int a2] (mk sh V R) (jWr sh R Q) jNo := by
  refine JM.intro (by decide) rfl htr (Nat.le_of_ble_eq_true rfl) ?_
  show J G l MX6_wouldMeet d 0 0 0 [(0, .ref t), (1, .int a1), (2, .int a2)] [] (mk sh V R) _ _
  unfold wX6_wouldMeet at hw
  refine J.aload_n 0 dX6_wouldMeet_0 rfl ?_
  refine J.iload_n 1 dX6_wouldMeet_1 rfl ?_
  refine J.iload_n 2 dX6_wouldMeet_2 rfl ?_
  refine uX6_271 rfl htr hT dX6_wouldMeet_3 (by omega) (Nat.le_of_ble_eq_true rfl) hw ?_
  clear hw
  intro r3 hw
  refine J.istore_n (lv' := [(3, .int r3), (0, .ref t), (1, .int a1), (2, .int a2)]) dX6_wouldMeet_6 (by decide) rfl ?_
  refine J.iload_n 0 dX6_wouldMeet_7 rfl ?_
  refine J.iconst (v := (-1 : Int32)) dX6_wouldMeet_8 (by decide) ?_
  refine J.icmp_eq 36 dX6_wouldMeet_9 (by decide) ⟨fun c9 => ?_, fun c9 => ?_⟩
  · obtain ⟨hw, -⟩ := hw
    specialize hw c9
    refine J.iconst (v := (0 : Int32)) dX6_wouldMeet_36 (by decide) ?_
    exact J.zret rfl rfl dX6_wouldMeet_37 ⟨_, rfl, _, rfl, hw⟩
  · obtain ⟨-, hw⟩ := hw
    specialize hw c9
    refine J.aload_n 1 dX6_wouldMeet_12 rfl ?_
    refine J.iload_n 2 dX6_wouldMeet_13 rfl ?_
    refine J.iload_n 0 dX6_wouldMeet_14 rfl ?_
    refine J.iload_n 3 dX6_wouldMeet_15 rfl ?_
    refine uX6_280 rfl htr hT dX6_wouldMeet_16 (by omega) (Nat.le_of_ble_eq_true rfl) hw ?_
    clear hw
    intro r16 hw
    refine J.if_eq 36 dX6_wouldMeet_19 (by decide) ⟨fun c19 => ?_, fun c19 => ?_⟩
    · obtain ⟨hw, -⟩ := hw
      specialize hw c19
      refine J.iconst (v := (0 : Int32)) dX6_wouldMeet_36 (by decide) ?_
      exact J.zret rfl rfl dX6_wouldMeet_37 ⟨_, rfl, _, rfl, hw⟩
    · obtain ⟨-, hw⟩ := hw
      specialize hw c19
      refine J.aload_n 1 dX6_wouldMeet_22 rfl ?_
      refine J.iload_n 2 dX6_wouldMeet_23 rfl ?_
      refine J.iload_n 0 dX6_wouldMeet_24 rfl ?_
      refine J.iload_n 3 dX6_wouldMeet_25 rfl ?_
      refine uX6_283 rfl htr hT dX6_wouldMeet_26 (by omega) (Nat.le_of_ble_eq_true rfl) hw ?_
      clear hw
      intro r26 V26 hw
      refine J.if_eq 36 dX6_wouldMeet_29 (by decide) ⟨fun c29 => ?_, fun c29 => ?_⟩
      · obtain ⟨hw, -⟩ := hw
        specialize hw c29
        refine J.iconst (v := (0 : Int32)) dX6_wouldMeet_36 (by decide) ?_
        exact J.zret rfl rfl dX6_wouldMeet_37 ⟨_, rfl, _, rfl, hw⟩
      · obtain ⟨-, hw⟩ := hw
        specialize hw c29
        refine J.iconst (v := (1 : Int32)) dX6_wouldMeet_32 (by decide) ?_
        refine J.goto 37 dX6_wouldMeet_33 (by decide) ?_
        exact J.zret rfl rfl dX6_wouldMeet_37 ⟨_, rfl, _, rfl, hw⟩
abbrev MX6_meet : jM := (yX6_meet, cX6_meet, 6, some .int, [])
theorem uX6_124 {G : jG} {l : Launch} {M : jM} {d c n pc : Nat} {lv : List (Nat × Value)} {rest : List Value} {post : Option Value → List jC → Prop} {xp : String → List jC → Prop} (hM : M.1.cls = RX6) (htr : l.stackTraces = false) {sh : List jH} {V : Nat → Nat → Int32} {R : Nat → Nat → Option Nat} {a1 : Int32} {a2 : Int32} {Q : Int32 → Prop} (hd : decode M.2.1 pc = .ok (.invokestatic 124, 3)) (hdd : 0 + 1 ≤ d) (hw8 : (rest.map fun v => v.category).sum ≤ 8) (hw : wX6_lesser a1 a2 Q) (kk : ∀ r, Q r → J G l M d c n (pc + 3) lv (.int r :: rest) (mk sh V R) post xp) : J G l M d c n pc lv (.int a2 :: .int a1 :: rest) (mk sh V R) post xp := by
  exact J.callS (As := [.int a1, .int a2]) (hcw := by rw [hM]; exact lw_S q2352 q2353 q152 q2354) (mX6_lesser htr hw) hd rfl ⟨by decide, by decide, by show _ = some 2; decide +kernel⟩ hw8 ⟨hdd, by decide⟩ jcc0 (fun r9 g9 h9 => by obtain ⟨rfl, r, rfl, h⟩ := h9; exact kk r h) jNo.x
theorem uX6_287 {G : jG} {l : Launch} {M : jM} {d c n pc : Nat} {lv : List (Nat × Value)} {rest : List Value} {post : Option Value → List jC → Prop} {xp : String → List jC → Prop} (hM : M.1.cls = RX6) (htr : l.stackTraces = false) {sh : List jH} {V : Nat → Nat → Int32} {R : Nat → Nat → Option Nat} {t : Nat} (hT : jReg shX6 sh t) {a1 : Int32} {a2 : Int32} {Q : Int32 → (Nat → Nat → Int32) → Prop} (hd : decode M.2.1 pc = .ok (.invokevirtual 287, 3)) (hdd : 71 + 1 ≤ d) (hw8 : (rest.map fun v => v.category).sum ≤ 8) (hw : wX6_wouldMeet t sh R V a1 a2 Q) (kk : ∀ r V', Q r V' → J G l M d c n (pc + 3) lv (.int r :: rest) (mk sh V' R) post xp) : J G l M d c n pc lv (.int a2 :: .int a1 :: .ref t :: rest) (mk sh V R) post xp := by
  exact J.callV (As := [.int a1, .int a2]) (hcw := by rw [hM]; exact lw_V q2542 q2544 qs120 q152 q2545) (mX6_wouldMeet htr (Nat.le_refl _) hT hw) hd rfl ⟨5, _, _, mk_at (hT.at 0 rfl), rfl, rfl, fun _ => rfl⟩ ⟨rfl, by decide, by decide, by show _ = some 2; decide +kernel⟩ hw8 ⟨hdd, by decide⟩ jcc0 (fun r9 g9 h9 => by obtain ⟨V9, rfl, r, rfl, h⟩ := h9; exact kk r V9 h) jNo.x
theorem uX6_290 {G : jG} {l : Launch} {M : jM} {d c n pc : Nat} {lv : List (Nat × Value)} {rest : List Value} {post : Option Value → List jC → Prop} {xp : String → List jC → Prop} (hM : M.1.cls = RX6) (htr : l.stackTraces = false) {sh : List jH} {V : Nat → Nat → Int32} {R : Nat → Nat → Option Nat} {t : Nat} (hT : jReg shX6 sh t) {a1 : Int32} {a2 : Int32} {a3 : Int32} {a4 : Int32} {a5 : Int32} {Q : (Nat → Nat → Int32) → Prop} (hd : decode M.2.1 pc = .ok (.invokevirtual 290, 3)) (hdd : 1 + 1 ≤ d) (hw8 : (rest.map fun v => v.category).sum ≤ 8) (hw : wX6_logs t V a1 a2 a3 a4 a5 Q) (kk : ∀ V', Q V' → J G l M d c n (pc + 3) lv rest (mk sh V' R) post xp) : J G l M d c n pc lv (.int a5 :: .int a4 :: .int a3 :: .int a2 :: .int a1 :: .ref t :: rest) (mk sh V R) post xp := by
  exact J.callV (As := [.int a1, .int a2, .int a3, .int a4, .int a5]) (hcw := by rw [hM]; exact lw_V q2546 q2548 qs121 q152 q2549) (mX6_logs htr hT hw) hd rfl ⟨5, _, _, mk_at (hT.at 0 rfl), rfl, rfl, fun _ => rfl⟩ ⟨rfl, by decide, by decide, by show _ = some 5; decide +kernel⟩ hw8 ⟨hdd, by decide⟩ jcc0 (fun r9 g9 h9 => by obtain ⟨V9, rfl, rfl, h⟩ := h9; exact kk V9 h) jNo.x
-- VisitingHoursModel.meet(I)I
def wX6_meet_4 (t : Nat) (sh : List jH) (R : Nat → Nat → Option Nat) (a1 : Int32) (Q : Int32 → (Nat → Nat → Int32) → Prop) : Nat → (Nat → Nat → Int32) → Int32 → Int32 → Prop
  | 0, _, _, _ => False
  | f + 1, V, x2, x3 =>
    (((V (t + 1) 3) ≤ x3 → Q x2 V) ∧ (¬ (V (t + 1) 3) ≤ x3 → (wX6_wouldMeet t sh R V x3 a1 (fun r17 V17 => ((¬ r17 = 0 → (wX6_bookedIn t V17 x3 a1 (fun r29 => (wX6_rankOf t V17 x3 r29 (fun r39 => (wX6_greater (0 : Int32) (r39 + (V17 t 17)) (fun r47 => (wX6_of t V17 x3 (2 : Int32) (fun r61 => (wX6_lesser (999 : Int32) (r61 + r47) (fun r67 => (wX6_put t V17 x3 (2 : Int32) r67 (fun V70 => (wX6_logs t V70 x3 r29 a1 (0 : Int32) r47 (fun V81 => (∀ y89 : Int32, y89 = (x2 ||| ((1 : Int32) <<< (x3 &&& 31))) → (∀ y90 : Int32, y90 = x3 + (1 : Int32) → wX6_meet_4 t sh R a1 Q f V81 y89 y90))))))))))))))))) ∧ (r17 = 0 → (∀ y90 : Int32, y90 = x3 + (1 : Int32) → wX6_meet_4 t sh R a1 Q f V17 x2 y90)))))))
theorem rX6_meet_4 {G : jG} {l : Launch} {d : Nat} {c n : Nat} (htr : l.stackTraces = false) (hdd : 72 ≤ d) {sh : List jH} {R : Nat → Nat → Option Nat} {t : Nat} (hT : jReg shX6 sh t) {a1 : Int32} {Q : Int32 → (Nat → Nat → Int32) → Prop} : ∀ (f : Nat) (V : Nat → Nat → Int32) (x2 : Int32) (x3 : Int32), wX6_meet_4 t sh R a1 Q f V x2 x3 → J G l MX6_meet d c n 4 [(0, .ref t), (1, .int a1), (2, .int x2), (3, .int x3)] [] (mk sh V R) (jWr sh R Q) jNo := by
  intro f
  induction f with
  | zero =>
    intro V x2 x3 hw
    rw [wX6_meet_4] at hw
    exact hw.elim
  | succ f ih =>
    intro V x2 x3 hw
    rw [wX6_meet_4] at hw
    refine J.iload_n 3 dX6_meet_4 rfl ?_
    refine J.aload_n 0 dX6_meet_5 rfl ?_
    refine fgX6_7 rfl hT dX6_meet_6 ?_
    refine J.iconst (v := (3 : Int32)) dX6_meet_9 (by decide) ?_
    refine JV.ialdK 3 dX6_meet_10 (hT.ge 1) (hT.at 1 rfl) rfl (by decide) (by decide) ?_
    refine J.icmp_ge 96 dX6_meet_11 (by decide) ⟨fun c11 => ?_, fun c11 => ?_⟩
    · obtain ⟨hw, -⟩ := hw
      specialize hw c11
      refine J.iload_n 2 dX6_meet_96 rfl ?_
      exact J.iret rfl dX6_meet_97 ⟨_, rfl, _, rfl, hw⟩
    · obtain ⟨-, hw⟩ := hw
      specialize hw c11
      refine J.aload_n 0 dX6_meet_14 rfl ?_
      refine J.iload_n 3 dX6_meet_15 rfl ?_
      refine J.iload_n 1 dX6_meet_16 rfl ?_
      refine uX6_287 rfl htr hT dX6_meet_17 (by omega) (Nat.le_of_ble_eq_true rfl) hw ?_
      clear hw
      intro r17 V17 hw
      refine J.if_ne 26 dX6_meet_20 (by decide) ⟨fun c20 => ?_, fun c20 => ?_⟩
      · obtain ⟨hw, -⟩ := hw
        specialize hw c20
        refine J.aload_n 0 dX6_meet_26 rfl ?_
        refine J.iload_n 3 dX6_meet_27 rfl ?_
        refine J.iload_n 1 dX6_meet_28 rfl ?_
        refine uX6_271 rfl htr hT dX6_meet_29 (by omega) (Nat.le_of_ble_eq_true rfl) hw ?_
        clear hw
        intro r29 hw
        refine J.istore (lv' := [(4, .int r29), (0, .ref t), (1, .int a1), (2, .int x2), (3, .int x3)]) dX6_meet_32 (by decide) rfl ?_
        refine J.iconst (v := (0 : Int32)) dX6_meet_34 (by decide) ?_
        refine J.aload_n 1 dX6_meet_35 rfl ?_
        refine J.iload_n 4 dX6_meet_36 rfl ?_
        refine J.iload 0 dX6_meet_37 rfl ?_
        refine uX6_61 rfl htr hT dX6_meet_39 (by omega) (Nat.le_of_ble_eq_true rfl) hw ?_
        clear hw
        intro r39 hw
        refine J.aload_n 1 dX6_meet_42 rfl ?_
        refine fgX6_266 rfl hT dX6_meet_43 ?_
        refine J.iadd dX6_meet_46 ?_
        refine uX6_277 rfl htr dX6_meet_47 (by omega) (Nat.le_of_ble_eq_true rfl) hw ?_
        clear hw
        intro r47 hw
        refine J.istore (lv' := [(5, .int r47), (4, .int r29), (0, .ref t), (1, .int a1), (2, .int x2), (3, .int x3)]) dX6_meet_50 (by decide) rfl ?_
        refine J.aload_n 2 dX6_meet_52 rfl ?_
        refine J.iload_n 5 dX6_meet_53 rfl ?_
        refine J.iconst (v := (2 : Int32)) dX6_meet_54 (by decide) ?_
        refine J.sipush (v := (999 : Int32)) dX6_meet_55 (by decide) ?_
        refine J.aload_n 2 dX6_meet_58 rfl ?_
        refine J.iload_n 5 dX6_meet_59 rfl ?_
        refine J.iconst (v := (2 : Int32)) dX6_meet_60 (by decide) ?_
        refine uX6_68 rfl htr hT dX6_meet_61 (by omega) (Nat.le_of_ble_eq_true rfl) hw ?_
        clear hw
        intro r61 hw
        refine J.iload 0 dX6_meet_64 rfl ?_
        refine J.iadd dX6_meet_66 ?_
        refine uX6_124 rfl htr dX6_meet_67 (by omega) (Nat.le_of_ble_eq_true rfl) hw ?_
        clear hw
        intro r67 hw
        refine uX6_140 rfl htr hT dX6_meet_70 (by omega) (Nat.le_of_ble_eq_true rfl) hw ?_
        clear hw
        intro V70 hw
        refine J.aload_n 2 dX6_meet_73 rfl ?_
        refine J.iload_n 5 dX6_meet_74 rfl ?_
        refine J.iload 1 dX6_meet_75 rfl ?_
        refine J.iload_n 3 dX6_meet_77 rfl ?_
        refine J.iconst (v := (0 : Int32)) dX6_meet_78 (by decide) ?_
        refine J.iload 0 dX6_meet_79 rfl ?_
        refine uX6_290 rfl htr hT dX6_meet_81 (by omega) (Nat.le_of_ble_eq_true rfl) hw ?_
        clear hw
        intro V81 hw
        refine J.iload_n 4 dX6_meet_84 rfl ?_
        refine J.iconst (v := (1 : Int32)) dX6_meet_85 (by decide) ?_
        refine J.iload_n 5 dX6_meet_86 rfl ?_
        refine J.ishl dX6_meet_87 ?_
        refine J.ior dX6_meet_88 ?_
        refine J.nm hw (fun y89 hw => ?_)
        refine J.istore_n (lv' := [(2, .int y89), (5, .int r47), (4, .int r29), (0, .ref t), (1, .int a1), (3, .int x3)]) dX6_meet_89 (by decide) rfl ?_
        refine J.iincN 5 (K := (1 : Int32)) (lv' := fun y90 => [(3, .int y90), (2, .int y89), (5, .int r47), (4, .int r29), (0, .ref t), (1, .int a1)]) dX6_meet_90 rfl (by decide) (by decide) (fun _ => rfl) hw (fun y90 hw => ?_)
        refine J.goto 4 dX6_meet_93 (by decide) ?_
        exact J.pick [4, 5, 1, 0] rfl (ih _ _ _ hw)
      · obtain ⟨-, hw⟩ := hw
        specialize hw c20
        refine J.goto 90 dX6_meet_23 (by decide) ?_
        refine J.iincN 3 (K := (1 : Int32)) (lv' := fun y90 => [(3, .int y90), (0, .ref t), (1, .int a1), (2, .int x2)]) dX6_meet_90 rfl (by decide) (by decide) (fun _ => rfl) hw (fun y90 hw => ?_)
        refine J.goto 4 dX6_meet_93 (by decide) ?_
        exact J.pick [1, 2, 3, 0] rfl (ih _ _ _ hw)
def wX6_meet (t : Nat) (sh : List jH) (R : Nat → Nat → Option Nat) (V : Nat → Nat → Int32) (a1 : Int32) (Q : Int32 → (Nat → Nat → Int32) → Prop) : Prop :=
  (∃ f9, wX6_meet_4 t sh R a1 Q f9 V (0 : Int32) (0 : Int32))
theorem mX6_meet {G : jG} {l : Launch} {d : Nat} (htr : l.stackTraces = false) (hdd : 72 ≤ d) {sh : List jH} {R : Nat → Nat → Option Nat} {V : Nat → Nat → Int32} {t : Nat} (hT : jReg shX6 sh t) {a1 : Int32} {Q : Int32 → (Nat → Nat → Int32) → Prop} (hw : wX6_meet t sh R V a1 Q) : JM G l MX6_meet d 0 0 [.ref t, .int a1] (mk sh V R) (jWr sh R Q) jNo := by
  refine JM.intro (by decide) rfl htr (Nat.le_of_ble_eq_true rfl) ?_
  show J G l MX6_meet d 0 0 0 [(0, .ref t), (1, .int a1)] [] (mk sh V R) _ _
  unfold wX6_meet at hw
  refine J.iconst (v := (0 : Int32)) dX6_meet_0 (by decide) ?_
  refine J.istore_n (lv' := [(2, .int (0 : Int32)), (0, .ref t), (1, .int a1)]) dX6_meet_1 (by decide) rfl ?_
  refine J.iconst (v := (0 : Int32)) dX6_meet_2 (by decide) ?_
  refine J.istore_n (lv' := [(3, .int (0 : Int32)), (2, .int (0 : Int32)), (0, .ref t), (1, .int a1)]) dX6_meet_3 (by decide) rfl ?_
  obtain ⟨f9, hw⟩ := hw
  exact J.pick [2, 3, 1, 0] rfl (rX6_meet_4 htr hdd hT f9 _ _ _ hw)
theorem fpX6_294 {G : jG} {l : Launch} {M : jM} {d c n pc : Nat} {lv : List (Nat × Value)} {st : List Value} {sh : List jH} {V : Nat → Nat → Int32} {R : Nat → Nat → Option Nat} {post : Option Value → List jC → Prop} {xp : String → List jC → Prop} {t : Nat} (hM : M.1.cls = RX6) (hT : jReg shX6 sh t) {x9 : Int32} (hd : decode M.2.1 pc = .ok (.putfield 294, 3)) (kk : J G l M d c n (pc + 3) lv st (mk sh (vset V t 20 x9) R) post xp) : J G l M d c n pc lv (.int x9 :: .ref t :: st) (mk sh V R) post xp := JV.puti (C := RX6) (T0 := TX6) (N := 28) (o := 0) 20 hd hT.1 (hT.at 0 rfl) rfl in_X6 tyX6 tyX6_ok nmX6 (by decide) (by rw [hM]; exact q2148) rfl rfl (ji_put x9) rfl kk
abbrev MX6_goes : jM := (yX6_goes, cX6_goes, 8, some .int, [])
theorem uX6_74 {G : jG} {l : Launch} {M : jM} {d c n pc : Nat} {lv : List (Nat × Value)} {rest : List Value} {post : Option Value → List jC → Prop} {xp : String → List jC → Prop} (hM : M.1.cls = RX6) (htr : l.stackTraces = false) {sh : List jH} {V : Nat → Nat → Int32} {R : Nat → Nat → Option Nat} {a1 : Int32} {a2 : Int32} {Q : Int32 → Prop} (hd : decode M.2.1 pc = .ok (.invokestatic 74, 3)) (hdd : 0 + 1 ≤ d) (hw8 : (rest.map fun v => v.category).sum ≤ 8) (hw : wX6_isOf a1 a2 Q) (kk : ∀ r, Q r → J G l M d c n (pc + 3) lv (.int r :: rest) (mk sh V R) post xp) : J G l M d c n pc lv (.int a2 :: .int a1 :: rest) (mk sh V R) post xp := by
  exact J.callS (As := [.int a1, .int a2]) (hcw := by rw [hM]; exact lw_S q2355 q2356 q152 q2357) (mX6_isOf htr hw) hd rfl ⟨by decide, by decide, by show _ = some 2; decide +kernel⟩ hw8 ⟨hdd, by decide⟩ jcc0 (fun r9 g9 h9 => by obtain ⟨rfl, r, rfl, h⟩ := h9; exact kk r h) jNo.x
theorem uX6_297 {G : jG} {l : Launch} {M : jM} {d c n pc : Nat} {lv : List (Nat × Value)} {rest : List Value} {post : Option Value → List jC → Prop} {xp : String → List jC → Prop} (hM : M.1.cls = RX6) (htr : l.stackTraces = false) {sh : List jH} {V : Nat → Nat → Int32} {R : Nat → Nat → Option Nat} {t : Nat} (hT : jReg shX6 sh t) {a1 : Int32} {Q : Int32 → (Nat → Nat → Int32) → Prop} (hd : decode M.2.1 pc = .ok (.invokevirtual 297, 3)) (hdd : 0 + 1 ≤ d) (hw8 : (rest.map fun v => v.category).sum ≤ 8) (hw : wX6_draw t V a1 Q) (kk : ∀ r V', Q r V' → J G l M d c n (pc + 3) lv (.int r :: rest) (mk sh V' R) post xp) : J G l M d c n pc lv (.int a1 :: .ref t :: rest) (mk sh V R) post xp := by
  exact J.callV (As := [.int a1]) (hcw := by rw [hM]; exact lw_V q2533 q2535 qs118 q152 q2536) (mX6_draw htr hT hw) hd rfl ⟨5, _, _, mk_at (hT.at 0 rfl), rfl, rfl, fun _ => rfl⟩ ⟨rfl, by decide, by decide, by show _ = some 1; decide +kernel⟩ hw8 ⟨hdd, by decide⟩ jcc0 (fun r9 g9 h9 => by obtain ⟨V9, rfl, r, rfl, h⟩ := h9; exact kk r V9 h) jNo.x
theorem uX6_300 {G : jG} {l : Launch} {M : jM} {d c n pc : Nat} {lv : List (Nat × Value)} {rest : List Value} {post : Option Value → List jC → Prop} {xp : String → List jC → Prop} (hM : M.1.cls = RX6) (htr : l.stackTraces = false) {sh : List jH} {V : Nat → Nat → Int32} {R : Nat → Nat → Option Nat} {t : Nat} (hT : jReg shX6 sh t) {a1 : Int32} {Q : Int32 → (Nat → Nat → Int32) → Prop} (hd : decode M.2.1 pc = .ok (.invokevirtual 300, 3)) (hdd : 72 + 1 ≤ d) (hw8 : (rest.map fun v => v.category).sum ≤ 8) (hw : wX6_meet t sh R V a1 Q) (kk : ∀ r V', Q r V' → J G l M d c n (pc + 3) lv (.int r :: rest) (mk sh V' R) post xp) : J G l M d c n pc lv (.int a1 :: .ref t :: rest) (mk sh V R) post xp := by
  exact J.callV (As := [.int a1]) (hcw := by rw [hM]; exact lw_V q2538 q2540 qs119 q152 q2541) (mX6_meet htr (Nat.le_refl _) hT hw) hd rfl ⟨5, _, _, mk_at (hT.at 0 rfl), rfl, rfl, fun _ => rfl⟩ ⟨rfl, by decide, by decide, by show _ = some 1; decide +kernel⟩ hw8 ⟨hdd, by decide⟩ jcc0 (fun r9 g9 h9 => by obtain ⟨V9, rfl, r, rfl, h⟩ := h9; exact kk r V9 h) jNo.x
theorem uX6_303 {G : jG} {l : Launch} {M : jM} {d c n pc : Nat} {lv : List (Nat × Value)} {rest : List Value} {post : Option Value → List jC → Prop} {xp : String → List jC → Prop} (hM : M.1.cls = RX6) (htr : l.stackTraces = false) {sh : List jH} {V : Nat → Nat → Int32} {R : Nat → Nat → Option Nat} {a1 : Int32} {Q : Int32 → Prop} (hd : decode M.2.1 pc = .ok (.invokestatic 303, 3)) (hdd : 0 + 1 ≤ d) (hw8 : (rest.map fun v => v.category).sum ≤ 8) (hw : wX6_bits a1 Q) (kk : ∀ r, Q r → J G l M d c n (pc + 3) lv (.int r :: rest) (mk sh V R) post xp) : J G l M d c n pc lv (.int a1 :: rest) (mk sh V R) post xp := by
  exact J.callS (As := [.int a1]) (hcw := by rw [hM]; exact lw_S q2550 q2551 q152 q2552) (mX6_bits htr hw) hd rfl ⟨by decide, by decide, by show _ = some 1; decide +kernel⟩ hw8 ⟨hdd, by decide⟩ jcc0 (fun r9 g9 h9 => by obtain ⟨rfl, r, rfl, h⟩ := h9; exact kk r h) jNo.x
theorem uX6_306 {G : jG} {l : Launch} {M : jM} {d c n pc : Nat} {lv : List (Nat × Value)} {rest : List Value} {post : Option Value → List jC → Prop} {xp : String → List jC → Prop} (hM : M.1.cls = RX6) (htr : l.stackTraces = false) {sh : List jH} {V : Nat → Nat → Int32} {R : Nat → Nat → Option Nat} {t : Nat} (hT : jReg shX6 sh t) {a1 : Int32} {a2 : Int32} {Q : (Nat → Nat → Int32) → Prop} (hd : decode M.2.1 pc = .ok (.invokevirtual 306, 3)) (hdd : 2 + 1 ≤ d) (hw8 : (rest.map fun v => v.category).sum ≤ 8) (hw : wX6_closes t V a1 a2 Q) (kk : ∀ V', Q V' → J G l M d c n (pc + 3) lv rest (mk sh V' R) post xp) : J G l M d c n pc lv (.int a2 :: .int a1 :: .ref t :: rest) (mk sh V R) post xp := by
  exact J.callV (As := [.int a1, .int a2]) (hcw := by rw [hM]; exact lw_V q2553 q2555 qs122 q152 q2556) (mX6_closes htr hT hw) hd rfl ⟨5, _, _, mk_at (hT.at 0 rfl), rfl, rfl, fun _ => rfl⟩ ⟨rfl, by decide, by decide, by show _ = some 2; decide +kernel⟩ hw8 ⟨hdd, by decide⟩ jcc0 (fun r9 g9 h9 => by obtain ⟨V9, rfl, rfl, h⟩ := h9; exact kk V9 h) jNo.x
-- VisitingHoursModel.goes(IZ)I
def wX6_goes_83 (t : Nat) (sh : List jH) (R : Nat → Nat → Option Nat) (a1 : Int32) (a2 : Int32) (Q : Int32 → (Nat → Nat → Int32) → Prop) (K10 : (Nat → Nat → Int32) → Int32 → Int32 → Prop) : Nat → (Nat → Nat → Int32) → Int32 → Int32 → Int32 → Int32 → Prop
  | 0, _, _, _, _, _ => False
  | f + 1, V, x3, x4, x5, x6 =>
    (((V (t + 1) 3) ≤ x6 → (wX6_lesser (9999 : Int32) ((V (t + 1) 6) + (1 : Int32)) (fun r131 => (∀ y135 : Int32, y135 = x4 + (1 : Int32) → K10 (vset V (t + 1) 6 r131) x3 y135)))) ∧ (¬ (V (t + 1) 3) ≤ x6 → (wX6_isOf x5 x6 (fun r101 => (wX6_closes t V x6 r101 (fun V104 => (∀ y107 : Int32, y107 = x6 + (1 : Int32) → wX6_goes_83 t sh R a1 a2 Q K10 f V104 x3 x4 x5 y107)))))))
theorem rX6_goes_83 {G : jG} {l : Launch} {d : Nat} {c n : Nat} (htr : l.stackTraces = false) (hdd : 73 ≤ d) {sh : List jH} {R : Nat → Nat → Option Nat} {t : Nat} (hT : jReg shX6 sh t) {a1 : Int32} {a2 : Int32} {Q : Int32 → (Nat → Nat → Int32) → Prop} {K10 : (Nat → Nat → Int32) → Int32 → Int32 → Prop} (hK10 : ∀ (V : Nat → Nat → Int32) (x3 : Int32) (x4 : Int32), K10 V x3 x4 → J G l MX6_goes d c n 10 [(0, .ref t), (1, .int a1), (2, .int a2), (3, .int x3), (4, .int x4)] [] (mk sh V R) (jWr sh R Q) jNo) : ∀ (f : Nat) (V : Nat → Nat → Int32) (x3 : Int32) (x4 : Int32) (x5 : Int32) (x6 : Int32), wX6_goes_83 t sh R a1 a2 Q K10 f V x3 x4 x5 x6 → J G l MX6_goes d c n 83 [(0, .ref t), (1, .int a1), (2, .int a2), (3, .int x3), (4, .int x4), (5, .int x5), (6, .int x6)] [] (mk sh V R) (jWr sh R Q) jNo := by
  intro f
  induction f with
  | zero =>
    intro V x3 x4 x5 x6 hw
    rw [wX6_goes_83] at hw
    exact hw.elim
  | succ f ih =>
    intro V x3 x4 x5 x6 hw
    rw [wX6_goes_83] at hw
    refine J.iload 6 dX6_goes_83 rfl ?_
    refine J.aload_n 0 dX6_goes_85 rfl ?_
    refine fgX6_7 rfl hT dX6_goes_86 ?_
    refine J.iconst (v := (3 : Int32)) dX6_goes_89 (by decide) ?_
    refine JV.ialdK 3 dX6_goes_90 (hT.ge 1) (hT.at 1 rfl) rfl (by decide) (by decide) ?_
    refine J.icmp_ge 113 dX6_goes_91 (by decide) ⟨fun c91 => ?_, fun c91 => ?_⟩
    · obtain ⟨hw, -⟩ := hw
      specialize hw c91
      refine J.aload_n 0 dX6_goes_113 rfl ?_
      refine fgX6_7 rfl hT dX6_goes_114 ?_
      refine J.bipush (v := (6 : Int32)) dX6_goes_117 (by decide) ?_
      refine J.sipush (v := (9999 : Int32)) dX6_goes_119 (by decide) ?_
      refine J.aload_n 0 dX6_goes_122 rfl ?_
      refine fgX6_7 rfl hT dX6_goes_123 ?_
      refine J.bipush (v := (6 : Int32)) dX6_goes_126 (by decide) ?_
      refine JV.ialdK 6 dX6_goes_128 (hT.ge 1) (hT.at 1 rfl) rfl (by decide) (by decide) ?_
      refine J.iconst (v := (1 : Int32)) dX6_goes_129 (by decide) ?_
      refine J.iadd dX6_goes_130 ?_
      refine uX6_124 rfl htr dX6_goes_131 (by omega) (Nat.le_of_ble_eq_true rfl) hw ?_
      clear hw
      intro r131 hw
      refine JV.iastK 6 dX6_goes_134 (hT.ge 1) (hT.at 1 rfl) rfl (by decide) (by decide) ?_
      refine J.iincN 4 (K := (1 : Int32)) (lv' := fun y135 => [(4, .int y135), (0, .ref t), (1, .int a1), (2, .int a2), (3, .int x3), (5, .int x5), (6, .int x6)]) dX6_goes_135 rfl (by decide) (by decide) (fun _ => rfl) hw (fun y135 hw => ?_)
      refine J.goto 10 dX6_goes_138 (by decide) ?_
      exact J.pick [1, 2, 3, 4, 0] rfl (hK10 _ _ _ hw)
    · obtain ⟨-, hw⟩ := hw
      specialize hw c91
      refine J.aload_n 0 dX6_goes_94 rfl ?_
      refine J.iload 6 dX6_goes_95 rfl ?_
      refine J.iload 5 dX6_goes_97 rfl ?_
      refine J.iload 6 dX6_goes_99 rfl ?_
      refine uX6_74 rfl htr dX6_goes_101 (by omega) (Nat.le_of_ble_eq_true rfl) hw ?_
      clear hw
      intro r101 hw
      refine uX6_306 rfl htr hT dX6_goes_104 (by omega) (Nat.le_of_ble_eq_true rfl) hw ?_
      clear hw
      intro V104 hw
      refine J.iincN 6 (K := (1 : Int32)) (lv' := fun y107 => [(6, .int y107), (0, .ref t), (1, .int a1), (2, .int a2), (3, .int x3), (4, .int x4), (5, .int x5)]) dX6_goes_107 rfl (by decide) (by decide) (fun _ => rfl) hw (fun y107 hw => ?_)
      refine J.goto 83 dX6_goes_110 (by decide) ?_
      exact J.pick [1, 2, 3, 4, 5, 6, 0] rfl (ih _ _ _ _ _ hw)
def wX6_goes_51 (t : Nat) (sh : List jH) (R : Nat → Nat → Option Nat) (a1 : Int32) (a2 : Int32) (Q : Int32 → (Nat → Nat → Int32) → Prop) (K10 : (Nat → Nat → Int32) → Int32 → Int32 → Prop) (K22 : (Nat → Nat → Int32) → Int32 → Int32 → Int32 → Int32 → Prop) (V : Nat → Nat → Int32) (x3 : Int32) (x4 : Int32) (x5 : Int32) (x6 : Int32) : Prop :=
  (wX6_meet t sh R V x6 (fun r54 V54 => (∀ y64 : Int32, y64 = (x5 ||| r54) → (wX6_bits r54 (fun r69 => (∀ y73 : Int32, y73 = (x3 + r69) → (∀ y74 : Int32, y74 = x6 + (1 : Int32) → K22 V54 y73 x4 y64 y74)))))))
theorem rX6_goes_51 {G : jG} {l : Launch} {d : Nat} {c n : Nat} (htr : l.stackTraces = false) (hdd : 73 ≤ d) {sh : List jH} {R : Nat → Nat → Option Nat} {t : Nat} (hT : jReg shX6 sh t) {a1 : Int32} {a2 : Int32} {Q : Int32 → (Nat → Nat → Int32) → Prop} {K10 : (Nat → Nat → Int32) → Int32 → Int32 → Prop} {K22 : (Nat → Nat → Int32) → Int32 → Int32 → Int32 → Int32 → Prop} (hK10 : ∀ (V : Nat → Nat → Int32) (x3 : Int32) (x4 : Int32), K10 V x3 x4 → J G l MX6_goes d c n 10 [(0, .ref t), (1, .int a1), (2, .int a2), (3, .int x3), (4, .int x4)] [] (mk sh V R) (jWr sh R Q) jNo) (hK22 : ∀ (V : Nat → Nat → Int32) (x3 : Int32) (x4 : Int32) (x5 : Int32) (x6 : Int32), K22 V x3 x4 x5 x6 → J G l MX6_goes d c n 22 [(0, .ref t), (1, .int a1), (2, .int a2), (3, .int x3), (4, .int x4), (5, .int x5), (6, .int x6)] [] (mk sh V R) (jWr sh R Q) jNo) {V : Nat → Nat → Int32} {x3 : Int32} {x4 : Int32} {x5 : Int32} {x6 : Int32} (hw : wX6_goes_51 t sh R a1 a2 Q K10 K22 V x3 x4 x5 x6) : J G l MX6_goes d c n 51 [(0, .ref t), (1, .int a1), (2, .int a2), (3, .int x3), (4, .int x4), (5, .int x5), (6, .int x6)] [] (mk sh V R) (jWr sh R Q) jNo := by
  unfold wX6_goes_51 at hw
  refine J.aload_n 0 dX6_goes_51 rfl ?_
  refine J.iload 6 dX6_goes_52 rfl ?_
  refine uX6_300 rfl htr hT dX6_goes_54 (by omega) (Nat.le_of_ble_eq_true rfl) hw ?_
  clear hw
  intro r54 V54 hw
  refine J.istore (lv' := [(7, .int r54), (0, .ref t), (1, .int a1), (2, .int a2), (3, .int x3), (4, .int x4), (5, .int x5), (6, .int x6)]) dX6_goes_57 (by decide) rfl ?_
  refine J.iload 6 dX6_goes_59 rfl ?_
  refine J.iload 0 dX6_goes_61 rfl ?_
  refine J.ior dX6_goes_63 ?_
  refine J.nm hw (fun y64 hw => ?_)
  refine J.istore (lv' := [(5, .int y64), (7, .int r54), (0, .ref t), (1, .int a1), (2, .int a2), (3, .int x3), (4, .int x4), (6, .int x6)]) dX6_goes_64 (by decide) rfl ?_
  refine J.iload_n 5 dX6_goes_66 rfl ?_
  refine J.iload 1 dX6_goes_67 rfl ?_
  refine uX6_303 rfl htr dX6_goes_69 (by omega) (Nat.le_of_ble_eq_true rfl) hw ?_
  clear hw
  intro r69 hw
  refine J.iadd dX6_goes_72 ?_
  refine J.nm hw (fun y73 hw => ?_)
  refine J.istore_n (lv' := [(3, .int y73), (5, .int y64), (7, .int r54), (0, .ref t), (1, .int a1), (2, .int a2), (4, .int x4), (6, .int x6)]) dX6_goes_73 (by decide) rfl ?_
  refine J.iincN 7 (K := (1 : Int32)) (lv' := fun y74 => [(6, .int y74), (3, .int y73), (5, .int y64), (7, .int r54), (0, .ref t), (1, .int a1), (2, .int a2), (4, .int x4)]) dX6_goes_74 rfl (by decide) (by decide) (fun _ => rfl) hw (fun y74 hw => ?_)
  refine J.goto 22 dX6_goes_77 (by decide) ?_
  exact J.pick [4, 5, 6, 1, 7, 2, 0] rfl (hK22 _ _ _ _ _ hw)
def wX6_goes_22 (t : Nat) (sh : List jH) (R : Nat → Nat → Option Nat) (a1 : Int32) (a2 : Int32) (Q : Int32 → (Nat → Nat → Int32) → Prop) (K10 : (Nat → Nat → Int32) → Int32 → Int32 → Prop) : Nat → (Nat → Nat → Int32) → Int32 → Int32 → Int32 → Int32 → Prop
  | 0, _, _, _, _, _ => False
  | f + 1, V, x3, x4, x5, x6 =>
    (((8 : Int32) ≤ x6 → (∃ f9, wX6_goes_83 t sh R a1 a2 Q K10 f9 V x3 x4 x5 (0 : Int32))) ∧ (¬ (8 : Int32) ≤ x6 → ((a2 = 0 → wX6_goes_51 t sh R a1 a2 Q K10 (fun V x3 x4 x5 x6 => wX6_goes_22 t sh R a1 a2 Q K10 f V x3 x4 x5 x6) V x3 x4 x5 x6) ∧ (¬ a2 = 0 → (wX6_draw t V (100 : Int32) (fun r36 V36 => (((V36 (t + 1) 5) ≤ r36 → wX6_goes_51 t sh R a1 a2 Q K10 (fun V x3 x4 x5 x6 => wX6_goes_22 t sh R a1 a2 Q K10 f V x3 x4 x5 x6) V36 x3 x4 x5 x6) ∧ (¬ (V36 (t + 1) 5) ≤ r36 → (∀ y74 : Int32, y74 = x6 + (1 : Int32) → wX6_goes_22 t sh R a1 a2 Q K10 f V36 x3 x4 x5 y74)))))))))
theorem rX6_goes_22 {G : jG} {l : Launch} {d : Nat} {c n : Nat} (htr : l.stackTraces = false) (hdd : 73 ≤ d) {sh : List jH} {R : Nat → Nat → Option Nat} {t : Nat} (hT : jReg shX6 sh t) {a1 : Int32} {a2 : Int32} {Q : Int32 → (Nat → Nat → Int32) → Prop} {K10 : (Nat → Nat → Int32) → Int32 → Int32 → Prop} (hK10 : ∀ (V : Nat → Nat → Int32) (x3 : Int32) (x4 : Int32), K10 V x3 x4 → J G l MX6_goes d c n 10 [(0, .ref t), (1, .int a1), (2, .int a2), (3, .int x3), (4, .int x4)] [] (mk sh V R) (jWr sh R Q) jNo) : ∀ (f : Nat) (V : Nat → Nat → Int32) (x3 : Int32) (x4 : Int32) (x5 : Int32) (x6 : Int32), wX6_goes_22 t sh R a1 a2 Q K10 f V x3 x4 x5 x6 → J G l MX6_goes d c n 22 [(0, .ref t), (1, .int a1), (2, .int a2), (3, .int x3), (4, .int x4), (5, .int x5), (6, .int x6)] [] (mk sh V R) (jWr sh R Q) jNo := by
  intro f
  induction f with
  | zero =>
    intro V x3 x4 x5 x6 hw
    rw [wX6_goes_22] at hw
    exact hw.elim
  | succ f ih =>
    intro V x3 x4 x5 x6 hw
    rw [wX6_goes_22] at hw
    refine J.iload 6 dX6_goes_22 rfl ?_
    refine J.bipush (v := (8 : Int32)) dX6_goes_24 (by decide) ?_
    refine J.icmp_ge 80 dX6_goes_26 (by decide) ⟨fun c26 => ?_, fun c26 => ?_⟩
    · obtain ⟨hw, -⟩ := hw
      specialize hw c26
      refine J.iconst (v := (0 : Int32)) dX6_goes_80 (by decide) ?_
      refine J.istore (lv' := [(6, .int (0 : Int32)), (0, .ref t), (1, .int a1), (2, .int a2), (3, .int x3), (4, .int x4), (5, .int x5)]) dX6_goes_81 (by decide) rfl ?_
      obtain ⟨f9, hw⟩ := hw
      exact J.pick [1, 2, 3, 4, 5, 6, 0] rfl (rX6_goes_83 htr hdd hT hK10 f9 _ _ _ _ _ hw)
    · obtain ⟨-, hw⟩ := hw
      specialize hw c26
      refine J.iload_n 2 dX6_goes_29 rfl ?_
      refine J.if_eq 51 dX6_goes_30 (by decide) ⟨fun c30 => ?_, fun c30 => ?_⟩
      · obtain ⟨hw, -⟩ := hw
        specialize hw c30
        exact (rX6_goes_51 htr hdd hT hK10 ih hw)
      · obtain ⟨-, hw⟩ := hw
        specialize hw c30
        refine J.aload_n 0 dX6_goes_33 rfl ?_
        refine J.bipush (v := (100 : Int32)) dX6_goes_34 (by decide) ?_
        refine uX6_297 rfl htr hT dX6_goes_36 (by omega) (Nat.le_of_ble_eq_true rfl) hw ?_
        clear hw
        intro r36 V36 hw
        refine J.aload_n 0 dX6_goes_39 rfl ?_
        refine fgX6_7 rfl hT dX6_goes_40 ?_
        refine J.iconst (v := (5 : Int32)) dX6_goes_43 (by decide) ?_
        refine JV.ialdK 5 dX6_goes_44 (hT.ge 1) (hT.at 1 rfl) rfl (by decide) (by decide) ?_
        refine J.icmp_ge 51 dX6_goes_45 (by decide) ⟨fun c45 => ?_, fun c45 => ?_⟩
        · obtain ⟨hw, -⟩ := hw
          specialize hw c45
          exact (rX6_goes_51 htr hdd hT hK10 ih hw)
        · obtain ⟨-, hw⟩ := hw
          specialize hw c45
          refine J.goto 74 dX6_goes_48 (by decide) ?_
          refine J.iincN 6 (K := (1 : Int32)) (lv' := fun y74 => [(6, .int y74), (0, .ref t), (1, .int a1), (2, .int a2), (3, .int x3), (4, .int x4), (5, .int x5)]) dX6_goes_74 rfl (by decide) (by decide) (fun _ => rfl) hw (fun y74 hw => ?_)
          refine J.goto 22 dX6_goes_77 (by decide) ?_
          exact J.pick [1, 2, 3, 4, 5, 6, 0] rfl (ih _ _ _ _ _ hw)
def wX6_goes_10 (t : Nat) (sh : List jH) (R : Nat → Nat → Option Nat) (a1 : Int32) (a2 : Int32) (Q : Int32 → (Nat → Nat → Int32) → Prop) : Nat → (Nat → Nat → Int32) → Int32 → Int32 → Prop
  | 0, _, _, _ => False
  | f + 1, V, x3, x4 =>
    ((a1 ≤ x4 → Q x3 V) ∧ (¬ a1 ≤ x4 → (∃ f9, wX6_goes_22 t sh R a1 a2 Q (fun V x3 x4 => wX6_goes_10 t sh R a1 a2 Q f V x3 x4) f9 V x3 x4 (0 : Int32) (0 : Int32))))
theorem rX6_goes_10 {G : jG} {l : Launch} {d : Nat} {c n : Nat} (htr : l.stackTraces = false) (hdd : 73 ≤ d) {sh : List jH} {R : Nat → Nat → Option Nat} {t : Nat} (hT : jReg shX6 sh t) {a1 : Int32} {a2 : Int32} {Q : Int32 → (Nat → Nat → Int32) → Prop} : ∀ (f : Nat) (V : Nat → Nat → Int32) (x3 : Int32) (x4 : Int32), wX6_goes_10 t sh R a1 a2 Q f V x3 x4 → J G l MX6_goes d c n 10 [(0, .ref t), (1, .int a1), (2, .int a2), (3, .int x3), (4, .int x4)] [] (mk sh V R) (jWr sh R Q) jNo := by
  intro f
  induction f with
  | zero =>
    intro V x3 x4 hw
    rw [wX6_goes_10] at hw
    exact hw.elim
  | succ f ih =>
    intro V x3 x4 hw
    rw [wX6_goes_10] at hw
    refine J.iload 4 dX6_goes_10 rfl ?_
    refine J.iload_n 1 dX6_goes_12 rfl ?_
    refine J.icmp_ge 141 dX6_goes_13 (by decide) ⟨fun c13 => ?_, fun c13 => ?_⟩
    · obtain ⟨hw, -⟩ := hw
      specialize hw c13
      refine J.iload_n 3 dX6_goes_141 rfl ?_
      exact J.iret rfl dX6_goes_142 ⟨_, rfl, _, rfl, hw⟩
    · obtain ⟨-, hw⟩ := hw
      specialize hw c13
      refine J.iconst (v := (0 : Int32)) dX6_goes_16 (by decide) ?_
      refine J.istore (lv' := [(5, .int (0 : Int32)), (0, .ref t), (1, .int a1), (2, .int a2), (3, .int x3), (4, .int x4)]) dX6_goes_17 (by decide) rfl ?_
      refine J.iconst (v := (0 : Int32)) dX6_goes_19 (by decide) ?_
      refine J.istore (lv' := [(6, .int (0 : Int32)), (5, .int (0 : Int32)), (0, .ref t), (1, .int a1), (2, .int a2), (3, .int x3), (4, .int x4)]) dX6_goes_20 (by decide) rfl ?_
      obtain ⟨f9, hw⟩ := hw
      exact J.pick [2, 3, 4, 5, 6, 1, 0] rfl (rX6_goes_22 htr hdd hT ih f9 _ _ _ _ _ hw)
def wX6_goes (t : Nat) (sh : List jH) (R : Nat → Nat → Option Nat) (V : Nat → Nat → Int32) (a1 : Int32) (a2 : Int32) (Q : Int32 → (Nat → Nat → Int32) → Prop) : Prop :=
  (∃ f9, wX6_goes_10 t sh R a1 a2 Q f9 (vset V t 20 (0 : Int32)) (0 : Int32) (0 : Int32))
theorem mX6_goes {G : jG} {l : Launch} {d : Nat} (htr : l.stackTraces = false) (hdd : 73 ≤ d) {sh : List jH} {R : Nat → Nat → Option Nat} {V : Nat → Nat → Int32} {t : Nat} (hT : jReg shX6 sh t) {a1 : Int32} {a2 : Int32} {Q : Int32 → (Nat → Nat → Int32) → Prop} (hw : wX6_goes t sh R V a1 a2 Q) : JM G l MX6_goes d 0 0 [.ref t, .int a1, .int a2] (mk sh V R) (jWr sh R Q) jNo := by
  refine JM.intro (by decide) rfl htr (Nat.le_of_ble_eq_true rfl) ?_
  show J G l MX6_goes d 0 0 0 [(0, .ref t), (1, .int a1), (2, .int a2)] [] (mk sh V R) _ _
  unfold wX6_goes at hw
  refine J.iconst (v := (0 : Int32)) dX6_goes_0 (by decide) ?_
  refine J.istore_n (lv' := [(3, .int (0 : Int32)), (0, .ref t), (1, .int a1), (2, .int a2)]) dX6_goes_1 (by decide) rfl ?_
  refine J.aload_n 1 dX6_goes_2 rfl ?_
  refine J.iconst (v := (0 : Int32)) dX6_goes_3 (by decide) ?_
  refine fpX6_294 rfl hT dX6_goes_4 ?_
  refine J.iconst (v := (0 : Int32)) dX6_goes_7 (by decide) ?_
  refine J.istore (lv' := [(4, .int (0 : Int32)), (3, .int (0 : Int32)), (0, .ref t), (1, .int a1), (2, .int a2)]) dX6_goes_8 (by decide) rfl ?_
  obtain ⟨f9, hw⟩ := hw
  exact J.pick [2, 3, 4, 1, 0] rfl (rX6_goes_10 htr hdd hT f9 _ _ _ hw)
abbrev MX6_weeks : jM := (yX6_weeks, cX6_weeks, 2, some .int, [])
theorem uX6_341 {G : jG} {l : Launch} {M : jM} {d c n pc : Nat} {lv : List (Nat × Value)} {rest : List Value} {post : Option Value → List jC → Prop} {xp : String → List jC → Prop} (hM : M.1.cls = RX6) (htr : l.stackTraces = false) {sh : List jH} {V : Nat → Nat → Int32} {R : Nat → Nat → Option Nat} {t : Nat} (hT : jReg shX6 sh t) {Q : (Nat → Nat → Int32) → Prop} (hd : decode M.2.1 pc = .ok (.invokevirtual 341, 3)) (hdd : 0 + 1 ≤ d) (hw8 : (rest.map fun v => v.category).sum ≤ 8) (hw : wX6_remembers t V Q) (kk : ∀ V', Q V' → J G l M d c n (pc + 3) lv rest (mk sh V' R) post xp) : J G l M d c n pc lv (.ref t :: rest) (mk sh V R) post xp := by
  exact J.callV (As := []) (hcw := by rw [hM]; exact lw_V q2501 q2503 qs116 q152 q2504) (mX6_remembers htr hT hw) hd rfl ⟨5, _, _, mk_at (hT.at 0 rfl), rfl, rfl, fun _ => rfl⟩ ⟨rfl, by decide, by decide, by show _ = some 0; decide +kernel⟩ hw8 ⟨hdd, by decide⟩ jcc0 (fun r9 g9 h9 => by obtain ⟨V9, rfl, rfl, h⟩ := h9; exact kk V9 h) jNo.x
theorem uX6_347 {G : jG} {l : Launch} {M : jM} {d c n pc : Nat} {lv : List (Nat × Value)} {rest : List Value} {post : Option Value → List jC → Prop} {xp : String → List jC → Prop} (hM : M.1.cls = RX6) (htr : l.stackTraces = false) {sh : List jH} {V : Nat → Nat → Int32} {R : Nat → Nat → Option Nat} {t : Nat} (hT : jReg shX6 sh t) {a1 : Int32} {a2 : Int32} {Q : Int32 → (Nat → Nat → Int32) → Prop} (hd : decode M.2.1 pc = .ok (.invokevirtual 347, 3)) (hdd : 73 + 1 ≤ d) (hw8 : (rest.map fun v => v.category).sum ≤ 8) (hw : wX6_goes t sh R V a1 a2 Q) (kk : ∀ r V', Q r V' → J G l M d c n (pc + 3) lv (.int r :: rest) (mk sh V' R) post xp) : J G l M d c n pc lv (.int a2 :: .int a1 :: .ref t :: rest) (mk sh V R) post xp := by
  exact J.callV (As := [.int a1, .int a2]) (hcw := by rw [hM]; exact lw_V q2529 q2531 qs117 q152 q2532) (mX6_goes htr (Nat.le_refl _) hT hw) hd rfl ⟨5, _, _, mk_at (hT.at 0 rfl), rfl, rfl, fun _ => rfl⟩ ⟨rfl, by decide, by decide, by show _ = some 2; decide +kernel⟩ hw8 ⟨hdd, by decide⟩ jcc0 (fun r9 g9 h9 => by obtain ⟨V9, rfl, r, rfl, h⟩ := h9; exact kk r V9 h) jNo.x
-- VisitingHoursModel.weeks(I)I
def wX6_weeks_16 (t : Nat) (sh : List jH) (R : Nat → Nat → Option Nat) (a1 : Int32) (Q : Int32 → (Nat → Nat → Int32) → Prop) (V : Nat → Nat → Int32) (s1 : Int32) : Prop :=
  ((((vset V t 0 s1) t 0) ≤ 0 → (wX6_remembers t (vset V t 0 s1) (fun V29 => (wX6_goes t sh R V29 a1 (1 : Int32) (fun r35 V35 => Q r35 V35))))) ∧ (¬ ((vset V t 0 s1) t 0) ≤ 0 → Q (0 : Int32) (vset V t 0 s1)))
theorem rX6_weeks_16 {G : jG} {l : Launch} {d : Nat} {c n : Nat} (htr : l.stackTraces = false) (hdd : 74 ≤ d) {sh : List jH} {R : Nat → Nat → Option Nat} {t : Nat} (hT : jReg shX6 sh t) {a1 : Int32} {Q : Int32 → (Nat → Nat → Int32) → Prop} {V : Nat → Nat → Int32} {s1 : Int32} (hw : wX6_weeks_16 t sh R a1 Q V s1) : J G l MX6_weeks d c n 16 [(0, .ref t), (1, .int a1)] [.int s1, .ref t] (mk sh V R) (jWr sh R Q) jNo := by
  unfold wX6_weeks_16 at hw
  refine fpX6_54 rfl hT dX6_weeks_16 ?_
  refine J.aload_n 0 dX6_weeks_19 rfl ?_
  refine fgX6_54 rfl hT dX6_weeks_20 ?_
  refine J.if_le 28 dX6_weeks_23 (by decide) ⟨fun c23 => ?_, fun c23 => ?_⟩
  · obtain ⟨hw, -⟩ := hw
    specialize hw c23
    refine J.aload_n 0 dX6_weeks_28 rfl ?_
    refine uX6_341 rfl htr hT dX6_weeks_29 (by omega) (Nat.le_of_ble_eq_true rfl) hw ?_
    clear hw
    intro V29 hw
    refine J.aload_n 0 dX6_weeks_32 rfl ?_
    refine J.iload_n 1 dX6_weeks_33 rfl ?_
    refine J.iconst (v := (1 : Int32)) dX6_weeks_34 (by decide) ?_
    refine uX6_347 rfl htr hT dX6_weeks_35 (by omega) (Nat.le_of_ble_eq_true rfl) hw ?_
    clear hw
    intro r35 V35 hw
    exact J.iret rfl dX6_weeks_38 ⟨_, rfl, _, rfl, hw⟩
  · obtain ⟨-, hw⟩ := hw
    specialize hw c23
    refine J.iconst (v := (0 : Int32)) dX6_weeks_26 (by decide) ?_
    exact J.iret rfl dX6_weeks_27 ⟨_, rfl, _, rfl, hw⟩
def wX6_weeks (t : Nat) (sh : List jH) (R : Nat → Nat → Option Nat) (V : Nat → Nat → Int32) (a1 : Int32) (Q : Int32 → (Nat → Nat → Int32) → Prop) : Prop :=
  (wX6_isIn a1 (1 : Int32) (60 : Int32) (fun r5 => ((¬ r5 = 0 → wX6_weeks_16 t sh R a1 Q V (0 : Int32)) ∧ (r5 = 0 → wX6_weeks_16 t sh R a1 Q V (1 : Int32)))))
theorem mX6_weeks {G : jG} {l : Launch} {d : Nat} (htr : l.stackTraces = false) (hdd : 74 ≤ d) {sh : List jH} {R : Nat → Nat → Option Nat} {V : Nat → Nat → Int32} {t : Nat} (hT : jReg shX6 sh t) {a1 : Int32} {Q : Int32 → (Nat → Nat → Int32) → Prop} (hw : wX6_weeks t sh R V a1 Q) : JM G l MX6_weeks d 0 0 [.ref t, .int a1] (mk sh V R) (jWr sh R Q) jNo := by
  refine JM.intro (by decide) rfl htr (Nat.le_of_ble_eq_true rfl) ?_
  show J G l MX6_weeks d 0 0 0 [(0, .ref t), (1, .int a1)] [] (mk sh V R) _ _
  unfold wX6_weeks at hw
  refine J.aload_n 0 dX6_weeks_0 rfl ?_
  refine J.iload_n 1 dX6_weeks_1 rfl ?_
  refine J.iconst (v := (1 : Int32)) dX6_weeks_2 (by decide) ?_
  refine J.bipush (v := (60 : Int32)) dX6_weeks_3 (by decide) ?_
  refine uX6_57 rfl htr dX6_weeks_5 (by omega) (Nat.le_of_ble_eq_true rfl) hw ?_
  clear hw
  intro r5 hw
  refine J.if_ne 15 dX6_weeks_8 (by decide) ⟨fun c8 => ?_, fun c8 => ?_⟩
  · obtain ⟨hw, -⟩ := hw
    specialize hw c8
    refine J.iconst (v := (0 : Int32)) dX6_weeks_15 (by decide) ?_
    exact (rX6_weeks_16 htr hdd hT hw)
  · obtain ⟨-, hw⟩ := hw
    specialize hw c8
    refine J.iconst (v := (1 : Int32)) dX6_weeks_11 (by decide) ?_
    refine J.goto 16 dX6_weeks_12 (by decide) ?_
    exact (rX6_weeks_16 htr hdd hT hw)
abbrev MX6_meetings : jM := (yX6_meetings, cX6_meetings, 5, some .int, [])
-- VisitingHoursModel.meetings(Z)I
def wX6_meetings_22 (t : Nat) (sh : List jH) (R : Nat → Nat → Option Nat) (a1 : Int32) (Q : Int32 → (Nat → Nat → Int32) → Prop) (K9 : (Nat → Nat → Int32) → Int32 → Int32 → Prop) : Nat → (Nat → Nat → Int32) → Int32 → Int32 → Int32 → Prop
  | 0, _, _, _, _ => False
  | f + 1, V, x2, x3, x4 =>
    (((8 : Int32) ≤ x4 → (∀ y74 : Int32, y74 = x3 + (1 : Int32) → K9 V x2 y74)) ∧ (¬ (8 : Int32) ≤ x4 → (wX6_wouldMeet t sh R V x3 x4 (fun r34 V34 => ((¬ r34 = 0 → ((a1 = 0 → (∀ y67 : Int32, y67 = (x2 + (1 : Int32)) → (∀ y68 : Int32, y68 = x4 + (1 : Int32) → wX6_meetings_22 t sh R a1 Q K9 f V34 y67 x3 y68))) ∧ (¬ a1 = 0 → (wX6_bookedIn t V34 x3 x4 (fun r54 => (wX6_joyOf t sh R V34 x3 r54 x4 (fun r59 V59 => (∀ y67 : Int32, y67 = (x2 + r59) → (∀ y68 : Int32, y68 = x4 + (1 : Int32) → wX6_meetings_22 t sh R a1 Q K9 f V59 y67 x3 y68))))))))) ∧ (r34 = 0 → (∀ y67 : Int32, y67 = (x2 + (0 : Int32)) → (∀ y68 : Int32, y68 = x4 + (1 : Int32) → wX6_meetings_22 t sh R a1 Q K9 f V34 y67 x3 y68))))))))
theorem rX6_meetings_22 {G : jG} {l : Launch} {d : Nat} {c n : Nat} (htr : l.stackTraces = false) (hdd : 72 ≤ d) {sh : List jH} {R : Nat → Nat → Option Nat} {t : Nat} (hT : jReg shX6 sh t) {a1 : Int32} {Q : Int32 → (Nat → Nat → Int32) → Prop} {K9 : (Nat → Nat → Int32) → Int32 → Int32 → Prop} (hK9 : ∀ (V : Nat → Nat → Int32) (x2 : Int32) (x3 : Int32), K9 V x2 x3 → J G l MX6_meetings d c n 9 [(0, .ref t), (1, .int a1), (2, .int x2), (3, .int x3)] [] (mk sh V R) (jWr sh R Q) jNo) : ∀ (f : Nat) (V : Nat → Nat → Int32) (x2 : Int32) (x3 : Int32) (x4 : Int32), wX6_meetings_22 t sh R a1 Q K9 f V x2 x3 x4 → J G l MX6_meetings d c n 22 [(0, .ref t), (1, .int a1), (2, .int x2), (3, .int x3), (4, .int x4)] [] (mk sh V R) (jWr sh R Q) jNo := by
  intro f
  induction f with
  | zero =>
    intro V x2 x3 x4 hw
    rw [wX6_meetings_22] at hw
    exact hw.elim
  | succ f ih =>
    intro V x2 x3 x4 hw
    rw [wX6_meetings_22] at hw
    refine J.iload 4 dX6_meetings_22 rfl ?_
    refine J.bipush (v := (8 : Int32)) dX6_meetings_24 (by decide) ?_
    refine J.icmp_ge 74 dX6_meetings_26 (by decide) ⟨fun c26 => ?_, fun c26 => ?_⟩
    · obtain ⟨hw, -⟩ := hw
      specialize hw c26
      refine J.iincN 3 (K := (1 : Int32)) (lv' := fun y74 => [(3, .int y74), (0, .ref t), (1, .int a1), (2, .int x2), (4, .int x4)]) dX6_meetings_74 rfl (by decide) (by decide) (fun _ => rfl) hw (fun y74 hw => ?_)
      refine J.goto 9 dX6_meetings_77 (by decide) ?_
      exact J.pick [1, 2, 3, 0] rfl (hK9 _ _ _ hw)
    · obtain ⟨-, hw⟩ := hw
      specialize hw c26
      refine J.iload_n 2 dX6_meetings_29 rfl ?_
      refine J.aload_n 0 dX6_meetings_30 rfl ?_
      refine J.iload_n 3 dX6_meetings_31 rfl ?_
      refine J.iload 4 dX6_meetings_32 rfl ?_
      refine uX6_287 rfl htr hT dX6_meetings_34 (by omega) (Nat.le_of_ble_eq_true rfl) hw ?_
      clear hw
      intro r34 V34 hw
      refine J.if_ne 44 dX6_meetings_37 (by decide) ⟨fun c37 => ?_, fun c37 => ?_⟩
      · obtain ⟨hw, -⟩ := hw
        specialize hw c37
        refine J.iload_n 1 dX6_meetings_44 rfl ?_
        refine J.if_eq 65 dX6_meetings_45 (by decide) ⟨fun c45 => ?_, fun c45 => ?_⟩
        · obtain ⟨hw, -⟩ := hw
          specialize hw c45
          refine J.iconst (v := (1 : Int32)) dX6_meetings_65 (by decide) ?_
          refine J.iadd dX6_meetings_66 ?_
          refine J.nm hw (fun y67 hw => ?_)
          refine J.istore_n (lv' := [(2, .int y67), (0, .ref t), (1, .int a1), (3, .int x3), (4, .int x4)]) dX6_meetings_67 (by decide) rfl ?_
          refine J.iincN 4 (K := (1 : Int32)) (lv' := fun y68 => [(4, .int y68), (2, .int y67), (0, .ref t), (1, .int a1), (3, .int x3)]) dX6_meetings_68 rfl (by decide) (by decide) (fun _ => rfl) hw (fun y68 hw => ?_)
          refine J.goto 22 dX6_meetings_71 (by decide) ?_
          exact J.pick [2, 3, 1, 4, 0] rfl (ih _ _ _ _ hw)
        · obtain ⟨-, hw⟩ := hw
          specialize hw c45
          refine J.aload_n 0 dX6_meetings_48 rfl ?_
          refine J.iload_n 3 dX6_meetings_49 rfl ?_
          refine J.aload_n 0 dX6_meetings_50 rfl ?_
          refine J.iload_n 3 dX6_meetings_51 rfl ?_
          refine J.iload 4 dX6_meetings_52 rfl ?_
          refine uX6_271 rfl htr hT dX6_meetings_54 (by omega) (Nat.le_of_ble_eq_true rfl) hw ?_
          clear hw
          intro r54 hw
          refine J.iload 4 dX6_meetings_57 rfl ?_
          refine uX6_337 rfl htr hT dX6_meetings_59 (by omega) (Nat.le_of_ble_eq_true rfl) hw ?_
          clear hw
          intro r59 V59 hw
          refine J.goto 66 dX6_meetings_62 (by decide) ?_
          refine J.iadd dX6_meetings_66 ?_
          refine J.nm hw (fun y67 hw => ?_)
          refine J.istore_n (lv' := [(2, .int y67), (0, .ref t), (1, .int a1), (3, .int x3), (4, .int x4)]) dX6_meetings_67 (by decide) rfl ?_
          refine J.iincN 4 (K := (1 : Int32)) (lv' := fun y68 => [(4, .int y68), (2, .int y67), (0, .ref t), (1, .int a1), (3, .int x3)]) dX6_meetings_68 rfl (by decide) (by decide) (fun _ => rfl) hw (fun y68 hw => ?_)
          refine J.goto 22 dX6_meetings_71 (by decide) ?_
          exact J.pick [2, 3, 1, 4, 0] rfl (ih _ _ _ _ hw)
      · obtain ⟨-, hw⟩ := hw
        specialize hw c37
        refine J.iconst (v := (0 : Int32)) dX6_meetings_40 (by decide) ?_
        refine J.goto 66 dX6_meetings_41 (by decide) ?_
        refine J.iadd dX6_meetings_66 ?_
        refine J.nm hw (fun y67 hw => ?_)
        refine J.istore_n (lv' := [(2, .int y67), (0, .ref t), (1, .int a1), (3, .int x3), (4, .int x4)]) dX6_meetings_67 (by decide) rfl ?_
        refine J.iincN 4 (K := (1 : Int32)) (lv' := fun y68 => [(4, .int y68), (2, .int y67), (0, .ref t), (1, .int a1), (3, .int x3)]) dX6_meetings_68 rfl (by decide) (by decide) (fun _ => rfl) hw (fun y68 hw => ?_)
        refine J.goto 22 dX6_meetings_71 (by decide) ?_
        exact J.pick [2, 3, 1, 4, 0] rfl (ih _ _ _ _ hw)
def wX6_meetings_9 (t : Nat) (sh : List jH) (R : Nat → Nat → Option Nat) (a1 : Int32) (Q : Int32 → (Nat → Nat → Int32) → Prop) : Nat → (Nat → Nat → Int32) → Int32 → Int32 → Prop
  | 0, _, _, _ => False
  | f + 1, V, x2, x3 =>
    (((V (t + 1) 3) ≤ x3 → Q x2 V) ∧ (¬ (V (t + 1) 3) ≤ x3 → (∃ f9, wX6_meetings_22 t sh R a1 Q (fun V x2 x3 => wX6_meetings_9 t sh R a1 Q f V x2 x3) f9 V x2 x3 (0 : Int32))))
theorem rX6_meetings_9 {G : jG} {l : Launch} {d : Nat} {c n : Nat} (htr : l.stackTraces = false) (hdd : 72 ≤ d) {sh : List jH} {R : Nat → Nat → Option Nat} {t : Nat} (hT : jReg shX6 sh t) {a1 : Int32} {Q : Int32 → (Nat → Nat → Int32) → Prop} : ∀ (f : Nat) (V : Nat → Nat → Int32) (x2 : Int32) (x3 : Int32), wX6_meetings_9 t sh R a1 Q f V x2 x3 → J G l MX6_meetings d c n 9 [(0, .ref t), (1, .int a1), (2, .int x2), (3, .int x3)] [] (mk sh V R) (jWr sh R Q) jNo := by
  intro f
  induction f with
  | zero =>
    intro V x2 x3 hw
    rw [wX6_meetings_9] at hw
    exact hw.elim
  | succ f ih =>
    intro V x2 x3 hw
    rw [wX6_meetings_9] at hw
    refine J.iload_n 3 dX6_meetings_9 rfl ?_
    refine J.aload_n 0 dX6_meetings_10 rfl ?_
    refine fgX6_7 rfl hT dX6_meetings_11 ?_
    refine J.iconst (v := (3 : Int32)) dX6_meetings_14 (by decide) ?_
    refine JV.ialdK 3 dX6_meetings_15 (hT.ge 1) (hT.at 1 rfl) rfl (by decide) (by decide) ?_
    refine J.icmp_ge 80 dX6_meetings_16 (by decide) ⟨fun c16 => ?_, fun c16 => ?_⟩
    · obtain ⟨hw, -⟩ := hw
      specialize hw c16
      refine J.iload_n 2 dX6_meetings_80 rfl ?_
      exact J.iret rfl dX6_meetings_81 ⟨_, rfl, _, rfl, hw⟩
    · obtain ⟨-, hw⟩ := hw
      specialize hw c16
      refine J.iconst (v := (0 : Int32)) dX6_meetings_19 (by decide) ?_
      refine J.istore (lv' := [(4, .int (0 : Int32)), (0, .ref t), (1, .int a1), (2, .int x2), (3, .int x3)]) dX6_meetings_20 (by decide) rfl ?_
      obtain ⟨f9, hw⟩ := hw
      exact J.pick [1, 2, 3, 4, 0] rfl (rX6_meetings_22 htr hdd hT ih f9 _ _ _ _ hw)
def wX6_meetings (t : Nat) (sh : List jH) (R : Nat → Nat → Option Nat) (V : Nat → Nat → Int32) (a1 : Int32) (Q : Int32 → (Nat → Nat → Int32) → Prop) : Prop :=
  (∃ f9, wX6_meetings_9 t sh R a1 Q f9 (vset V t 0 (0 : Int32)) (0 : Int32) (0 : Int32))
theorem mX6_meetings {G : jG} {l : Launch} {d : Nat} (htr : l.stackTraces = false) (hdd : 72 ≤ d) {sh : List jH} {R : Nat → Nat → Option Nat} {V : Nat → Nat → Int32} {t : Nat} (hT : jReg shX6 sh t) {a1 : Int32} {Q : Int32 → (Nat → Nat → Int32) → Prop} (hw : wX6_meetings t sh R V a1 Q) : JM G l MX6_meetings d 0 0 [.ref t, .int a1] (mk sh V R) (jWr sh R Q) jNo := by
  refine JM.intro (by decide) rfl htr (Nat.le_of_ble_eq_true rfl) ?_
  show J G l MX6_meetings d 0 0 0 [(0, .ref t), (1, .int a1)] [] (mk sh V R) _ _
  unfold wX6_meetings at hw
  refine J.aload_n 0 dX6_meetings_0 rfl ?_
  refine J.iconst (v := (0 : Int32)) dX6_meetings_1 (by decide) ?_
  refine fpX6_54 rfl hT dX6_meetings_2 ?_
  refine J.iconst (v := (0 : Int32)) dX6_meetings_5 (by decide) ?_
  refine J.istore_n (lv' := [(2, .int (0 : Int32)), (0, .ref t), (1, .int a1)]) dX6_meetings_6 (by decide) rfl ?_
  refine J.iconst (v := (0 : Int32)) dX6_meetings_7 (by decide) ?_
  refine J.istore_n (lv' := [(3, .int (0 : Int32)), (2, .int (0 : Int32)), (0, .ref t), (1, .int a1)]) dX6_meetings_8 (by decide) rfl ?_
  obtain ⟨f9, hw⟩ := hw
  exact J.pick [2, 3, 1, 0] rfl (rX6_meetings_9 htr hdd hT f9 _ _ _ hw)
abbrev MX6_taboo : jM := (yX6_taboo, cX6_taboo, 4, some .int, [])
-- VisitingHoursModel.taboo()I
def wX6_taboo_21 (t : Nat) (sh : List jH) (R : Nat → Nat → Option Nat) (Q : Int32 → (Nat → Nat → Int32) → Prop) (K9 : (Nat → Nat → Int32) → Int32 → Int32 → Prop) : Nat → (Nat → Nat → Int32) → Int32 → Int32 → Int32 → Prop
  | 0, _, _, _, _ => False
  | f + 1, V, x1, x2, x3 =>
    (((8 : Int32) ≤ x3 → (∀ y60 : Int32, y60 = x2 + (1 : Int32) → K9 V x1 y60)) ∧ (¬ (8 : Int32) ≤ x3 → (wX6_bookedIn t V x2 x3 (fun r31 => ((r31 = (-1 : Int32) → (∀ y53 : Int32, y53 = (x1 + (0 : Int32)) → (∀ y54 : Int32, y54 = x3 + (1 : Int32) → wX6_taboo_21 t sh R Q K9 f V y53 x2 y54))) ∧ (¬ r31 = (-1 : Int32) → (wX6_wouldMeet t sh R V x2 x3 (fun r41 V41 => ((¬ r41 = 0 → (∀ y53 : Int32, y53 = (x1 + (0 : Int32)) → (∀ y54 : Int32, y54 = x3 + (1 : Int32) → wX6_taboo_21 t sh R Q K9 f V41 y53 x2 y54))) ∧ (r41 = 0 → (∀ y53 : Int32, y53 = (x1 + (1 : Int32)) → (∀ y54 : Int32, y54 = x3 + (1 : Int32) → wX6_taboo_21 t sh R Q K9 f V41 y53 x2 y54))))))))))))
theorem rX6_taboo_21 {G : jG} {l : Launch} {d : Nat} {c n : Nat} (htr : l.stackTraces = false) (hdd : 72 ≤ d) {sh : List jH} {R : Nat → Nat → Option Nat} {t : Nat} (hT : jReg shX6 sh t) {Q : Int32 → (Nat → Nat → Int32) → Prop} {K9 : (Nat → Nat → Int32) → Int32 → Int32 → Prop} (hK9 : ∀ (V : Nat → Nat → Int32) (x1 : Int32) (x2 : Int32), K9 V x1 x2 → J G l MX6_taboo d c n 9 [(0, .ref t), (1, .int x1), (2, .int x2)] [] (mk sh V R) (jWr sh R Q) jNo) : ∀ (f : Nat) (V : Nat → Nat → Int32) (x1 : Int32) (x2 : Int32) (x3 : Int32), wX6_taboo_21 t sh R Q K9 f V x1 x2 x3 → J G l MX6_taboo d c n 21 [(0, .ref t), (1, .int x1), (2, .int x2), (3, .int x3)] [] (mk sh V R) (jWr sh R Q) jNo := by
  intro f
  induction f with
  | zero =>
    intro V x1 x2 x3 hw
    rw [wX6_taboo_21] at hw
    exact hw.elim
  | succ f ih =>
    intro V x1 x2 x3 hw
    rw [wX6_taboo_21] at hw
    refine J.iload_n 3 dX6_taboo_21 rfl ?_
    refine J.bipush (v := (8 : Int32)) dX6_taboo_22 (by decide) ?_
    refine J.icmp_ge 60 dX6_taboo_24 (by decide) ⟨fun c24 => ?_, fun c24 => ?_⟩
    · obtain ⟨hw, -⟩ := hw
      specialize hw c24
      refine J.iincN 2 (K := (1 : Int32)) (lv' := fun y60 => [(2, .int y60), (0, .ref t), (1, .int x1), (3, .int x3)]) dX6_taboo_60 rfl (by decide) (by decide) (fun _ => rfl) hw (fun y60 hw => ?_)
      refine J.goto 9 dX6_taboo_63 (by decide) ?_
      exact J.pick [1, 2, 0] rfl (hK9 _ _ _ hw)
    · obtain ⟨-, hw⟩ := hw
      specialize hw c24
      refine J.iload_n 1 dX6_taboo_27 rfl ?_
      refine J.aload_n 0 dX6_taboo_28 rfl ?_
      refine J.iload_n 2 dX6_taboo_29 rfl ?_
      refine J.iload_n 3 dX6_taboo_30 rfl ?_
      refine uX6_271 rfl htr hT dX6_taboo_31 (by omega) (Nat.le_of_ble_eq_true rfl) hw ?_
      clear hw
      intro r31 hw
      refine J.iconst (v := (-1 : Int32)) dX6_taboo_34 (by decide) ?_
      refine J.icmp_eq 51 dX6_taboo_35 (by decide) ⟨fun c35 => ?_, fun c35 => ?_⟩
      · obtain ⟨hw, -⟩ := hw
        specialize hw c35
        refine J.iconst (v := (0 : Int32)) dX6_taboo_51 (by decide) ?_
        refine J.iadd dX6_taboo_52 ?_
        refine J.nm hw (fun y53 hw => ?_)
        refine J.istore_n (lv' := [(1, .int y53), (0, .ref t), (2, .int x2), (3, .int x3)]) dX6_taboo_53 (by decide) rfl ?_
        refine J.iincN 3 (K := (1 : Int32)) (lv' := fun y54 => [(3, .int y54), (1, .int y53), (0, .ref t), (2, .int x2)]) dX6_taboo_54 rfl (by decide) (by decide) (fun _ => rfl) hw (fun y54 hw => ?_)
        refine J.goto 21 dX6_taboo_57 (by decide) ?_
        exact J.pick [2, 1, 3, 0] rfl (ih _ _ _ _ hw)
      · obtain ⟨-, hw⟩ := hw
        specialize hw c35
        refine J.aload_n 0 dX6_taboo_38 rfl ?_
        refine J.iload_n 2 dX6_taboo_39 rfl ?_
        refine J.iload_n 3 dX6_taboo_40 rfl ?_
        refine uX6_287 rfl htr hT dX6_taboo_41 (by omega) (Nat.le_of_ble_eq_true rfl) hw ?_
        clear hw
        intro r41 V41 hw
        refine J.if_ne 51 dX6_taboo_44 (by decide) ⟨fun c44 => ?_, fun c44 => ?_⟩
        · obtain ⟨hw, -⟩ := hw
          specialize hw c44
          refine J.iconst (v := (0 : Int32)) dX6_taboo_51 (by decide) ?_
          refine J.iadd dX6_taboo_52 ?_
          refine J.nm hw (fun y53 hw => ?_)
          refine J.istore_n (lv' := [(1, .int y53), (0, .ref t), (2, .int x2), (3, .int x3)]) dX6_taboo_53 (by decide) rfl ?_
          refine J.iincN 3 (K := (1 : Int32)) (lv' := fun y54 => [(3, .int y54), (1, .int y53), (0, .ref t), (2, .int x2)]) dX6_taboo_54 rfl (by decide) (by decide) (fun _ => rfl) hw (fun y54 hw => ?_)
          refine J.goto 21 dX6_taboo_57 (by decide) ?_
          exact J.pick [2, 1, 3, 0] rfl (ih _ _ _ _ hw)
        · obtain ⟨-, hw⟩ := hw
          specialize hw c44
          refine J.iconst (v := (1 : Int32)) dX6_taboo_47 (by decide) ?_
          refine J.goto 52 dX6_taboo_48 (by decide) ?_
          refine J.iadd dX6_taboo_52 ?_
          refine J.nm hw (fun y53 hw => ?_)
          refine J.istore_n (lv' := [(1, .int y53), (0, .ref t), (2, .int x2), (3, .int x3)]) dX6_taboo_53 (by decide) rfl ?_
          refine J.iincN 3 (K := (1 : Int32)) (lv' := fun y54 => [(3, .int y54), (1, .int y53), (0, .ref t), (2, .int x2)]) dX6_taboo_54 rfl (by decide) (by decide) (fun _ => rfl) hw (fun y54 hw => ?_)
          refine J.goto 21 dX6_taboo_57 (by decide) ?_
          exact J.pick [2, 1, 3, 0] rfl (ih _ _ _ _ hw)
def wX6_taboo_9 (t : Nat) (sh : List jH) (R : Nat → Nat → Option Nat) (Q : Int32 → (Nat → Nat → Int32) → Prop) : Nat → (Nat → Nat → Int32) → Int32 → Int32 → Prop
  | 0, _, _, _ => False
  | f + 1, V, x1, x2 =>
    (((V (t + 1) 3) ≤ x2 → Q x1 V) ∧ (¬ (V (t + 1) 3) ≤ x2 → (∃ f9, wX6_taboo_21 t sh R Q (fun V x1 x2 => wX6_taboo_9 t sh R Q f V x1 x2) f9 V x1 x2 (0 : Int32))))
theorem rX6_taboo_9 {G : jG} {l : Launch} {d : Nat} {c n : Nat} (htr : l.stackTraces = false) (hdd : 72 ≤ d) {sh : List jH} {R : Nat → Nat → Option Nat} {t : Nat} (hT : jReg shX6 sh t) {Q : Int32 → (Nat → Nat → Int32) → Prop} : ∀ (f : Nat) (V : Nat → Nat → Int32) (x1 : Int32) (x2 : Int32), wX6_taboo_9 t sh R Q f V x1 x2 → J G l MX6_taboo d c n 9 [(0, .ref t), (1, .int x1), (2, .int x2)] [] (mk sh V R) (jWr sh R Q) jNo := by
  intro f
  induction f with
  | zero =>
    intro V x1 x2 hw
    rw [wX6_taboo_9] at hw
    exact hw.elim
  | succ f ih =>
    intro V x1 x2 hw
    rw [wX6_taboo_9] at hw
    refine J.iload_n 2 dX6_taboo_9 rfl ?_
    refine J.aload_n 0 dX6_taboo_10 rfl ?_
    refine fgX6_7 rfl hT dX6_taboo_11 ?_
    refine J.iconst (v := (3 : Int32)) dX6_taboo_14 (by decide) ?_
    refine JV.ialdK 3 dX6_taboo_15 (hT.ge 1) (hT.at 1 rfl) rfl (by decide) (by decide) ?_
    refine J.icmp_ge 66 dX6_taboo_16 (by decide) ⟨fun c16 => ?_, fun c16 => ?_⟩
    · obtain ⟨hw, -⟩ := hw
      specialize hw c16
      refine J.iload_n 1 dX6_taboo_66 rfl ?_
      exact J.iret rfl dX6_taboo_67 ⟨_, rfl, _, rfl, hw⟩
    · obtain ⟨-, hw⟩ := hw
      specialize hw c16
      refine J.iconst (v := (0 : Int32)) dX6_taboo_19 (by decide) ?_
      refine J.istore_n (lv' := [(3, .int (0 : Int32)), (0, .ref t), (1, .int x1), (2, .int x2)]) dX6_taboo_20 (by decide) rfl ?_
      obtain ⟨f9, hw⟩ := hw
      exact J.pick [1, 2, 3, 0] rfl (rX6_taboo_21 htr hdd hT ih f9 _ _ _ _ hw)
def wX6_taboo (t : Nat) (sh : List jH) (R : Nat → Nat → Option Nat) (V : Nat → Nat → Int32) (Q : Int32 → (Nat → Nat → Int32) → Prop) : Prop :=
  (∃ f9, wX6_taboo_9 t sh R Q f9 (vset V t 0 (0 : Int32)) (0 : Int32) (0 : Int32))
theorem mX6_taboo {G : jG} {l : Launch} {d : Nat} (htr : l.stackTraces = false) (hdd : 72 ≤ d) {sh : List jH} {R : Nat → Nat → Option Nat} {V : Nat → Nat → Int32} {t : Nat} (hT : jReg shX6 sh t) {Q : Int32 → (Nat → Nat → Int32) → Prop} (hw : wX6_taboo t sh R V Q) : JM G l MX6_taboo d 0 0 [.ref t] (mk sh V R) (jWr sh R Q) jNo := by
  refine JM.intro (by decide) rfl htr (Nat.le_of_ble_eq_true rfl) ?_
  show J G l MX6_taboo d 0 0 0 [(0, .ref t)] [] (mk sh V R) _ _
  unfold wX6_taboo at hw
  refine J.aload_n 0 dX6_taboo_0 rfl ?_
  refine J.iconst (v := (0 : Int32)) dX6_taboo_1 (by decide) ?_
  refine fpX6_54 rfl hT dX6_taboo_2 ?_
  refine J.iconst (v := (0 : Int32)) dX6_taboo_5 (by decide) ?_
  refine J.istore_n (lv' := [(1, .int (0 : Int32)), (0, .ref t)]) dX6_taboo_6 (by decide) rfl ?_
  refine J.iconst (v := (0 : Int32)) dX6_taboo_7 (by decide) ?_
  refine J.istore_n (lv' := [(2, .int (0 : Int32)), (1, .int (0 : Int32)), (0, .ref t)]) dX6_taboo_8 (by decide) rfl ?_
  obtain ⟨f9, hw⟩ := hw
  exact J.pick [2, 1, 0] rfl (rX6_taboo_9 htr hdd hT f9 _ _ _ hw)
abbrev MX6_meetsIn : jM := (yX6_meetsIn, cX6_meetsIn, 4, some .int, [])
-- VisitingHoursModel.meetsIn(I)I
def wX6_meetsIn_4 (t : Nat) (sh : List jH) (R : Nat → Nat → Option Nat) (a1 : Int32) (Q : Int32 → (Nat → Nat → Int32) → Prop) : Nat → (Nat → Nat → Int32) → Int32 → Int32 → Prop
  | 0, _, _, _ => False
  | f + 1, V, x2, x3 =>
    (((8 : Int32) ≤ x3 → Q x2 V) ∧ (¬ (8 : Int32) ≤ x3 → (wX6_wouldMeet t sh R V a1 x3 (fun r14 V14 => ((r14 = 0 → (∀ y28 : Int32, y28 = (x2 ||| (0 : Int32)) → (∀ y29 : Int32, y29 = x3 + (1 : Int32) → wX6_meetsIn_4 t sh R a1 Q f V14 y28 y29))) ∧ (¬ r14 = 0 → (∀ y28 : Int32, y28 = (x2 ||| ((1 : Int32) <<< (x3 &&& 31))) → (∀ y29 : Int32, y29 = x3 + (1 : Int32) → wX6_meetsIn_4 t sh R a1 Q f V14 y28 y29))))))))
theorem rX6_meetsIn_4 {G : jG} {l : Launch} {d : Nat} {c n : Nat} (htr : l.stackTraces = false) (hdd : 72 ≤ d) {sh : List jH} {R : Nat → Nat → Option Nat} {t : Nat} (hT : jReg shX6 sh t) {a1 : Int32} {Q : Int32 → (Nat → Nat → Int32) → Prop} : ∀ (f : Nat) (V : Nat → Nat → Int32) (x2 : Int32) (x3 : Int32), wX6_meetsIn_4 t sh R a1 Q f V x2 x3 → J G l MX6_meetsIn d c n 4 [(0, .ref t), (1, .int a1), (2, .int x2), (3, .int x3)] [] (mk sh V R) (jWr sh R Q) jNo := by
  intro f
  induction f with
  | zero =>
    intro V x2 x3 hw
    rw [wX6_meetsIn_4] at hw
    exact hw.elim
  | succ f ih =>
    intro V x2 x3 hw
    rw [wX6_meetsIn_4] at hw
    refine J.iload_n 3 dX6_meetsIn_4 rfl ?_
    refine J.bipush (v := (8 : Int32)) dX6_meetsIn_5 (by decide) ?_
    refine J.icmp_ge 35 dX6_meetsIn_7 (by decide) ⟨fun c7 => ?_, fun c7 => ?_⟩
    · obtain ⟨hw, -⟩ := hw
      specialize hw c7
      refine J.iload_n 2 dX6_meetsIn_35 rfl ?_
      exact J.iret rfl dX6_meetsIn_36 ⟨_, rfl, _, rfl, hw⟩
    · obtain ⟨-, hw⟩ := hw
      specialize hw c7
      refine J.iload_n 2 dX6_meetsIn_10 rfl ?_
      refine J.aload_n 0 dX6_meetsIn_11 rfl ?_
      refine J.iload_n 1 dX6_meetsIn_12 rfl ?_
      refine J.iload_n 3 dX6_meetsIn_13 rfl ?_
      refine uX6_287 rfl htr hT dX6_meetsIn_14 (by omega) (Nat.le_of_ble_eq_true rfl) hw ?_
      clear hw
      intro r14 V14 hw
      refine J.if_eq 26 dX6_meetsIn_17 (by decide) ⟨fun c17 => ?_, fun c17 => ?_⟩
      · obtain ⟨hw, -⟩ := hw
        specialize hw c17
        refine J.iconst (v := (0 : Int32)) dX6_meetsIn_26 (by decide) ?_
        refine J.ior dX6_meetsIn_27 ?_
        refine J.nm hw (fun y28 hw => ?_)
        refine J.istore_n (lv' := [(2, .int y28), (0, .ref t), (1, .int a1), (3, .int x3)]) dX6_meetsIn_28 (by decide) rfl ?_
        refine J.iincN 3 (K := (1 : Int32)) (lv' := fun y29 => [(3, .int y29), (2, .int y28), (0, .ref t), (1, .int a1)]) dX6_meetsIn_29 rfl (by decide) (by decide) (fun _ => rfl) hw (fun y29 hw => ?_)
        refine J.goto 4 dX6_meetsIn_32 (by decide) ?_
        exact J.pick [2, 3, 1, 0] rfl (ih _ _ _ hw)
      · obtain ⟨-, hw⟩ := hw
        specialize hw c17
        refine J.iconst (v := (1 : Int32)) dX6_meetsIn_20 (by decide) ?_
        refine J.iload_n 3 dX6_meetsIn_21 rfl ?_
        refine J.ishl dX6_meetsIn_22 ?_
        refine J.goto 27 dX6_meetsIn_23 (by decide) ?_
        refine J.ior dX6_meetsIn_27 ?_
        refine J.nm hw (fun y28 hw => ?_)
        refine J.istore_n (lv' := [(2, .int y28), (0, .ref t), (1, .int a1), (3, .int x3)]) dX6_meetsIn_28 (by decide) rfl ?_
        refine J.iincN 3 (K := (1 : Int32)) (lv' := fun y29 => [(3, .int y29), (2, .int y28), (0, .ref t), (1, .int a1)]) dX6_meetsIn_29 rfl (by decide) (by decide) (fun _ => rfl) hw (fun y29 hw => ?_)
        refine J.goto 4 dX6_meetsIn_32 (by decide) ?_
        exact J.pick [2, 3, 1, 0] rfl (ih _ _ _ hw)
def wX6_meetsIn (t : Nat) (sh : List jH) (R : Nat → Nat → Option Nat) (V : Nat → Nat → Int32) (a1 : Int32) (Q : Int32 → (Nat → Nat → Int32) → Prop) : Prop :=
  (∃ f9, wX6_meetsIn_4 t sh R a1 Q f9 V (0 : Int32) (0 : Int32))
theorem mX6_meetsIn {G : jG} {l : Launch} {d : Nat} (htr : l.stackTraces = false) (hdd : 72 ≤ d) {sh : List jH} {R : Nat → Nat → Option Nat} {V : Nat → Nat → Int32} {t : Nat} (hT : jReg shX6 sh t) {a1 : Int32} {Q : Int32 → (Nat → Nat → Int32) → Prop} (hw : wX6_meetsIn t sh R V a1 Q) : JM G l MX6_meetsIn d 0 0 [.ref t, .int a1] (mk sh V R) (jWr sh R Q) jNo := by
  refine JM.intro (by decide) rfl htr (Nat.le_of_ble_eq_true rfl) ?_
  show J G l MX6_meetsIn d 0 0 0 [(0, .ref t), (1, .int a1)] [] (mk sh V R) _ _
  unfold wX6_meetsIn at hw
  refine J.iconst (v := (0 : Int32)) dX6_meetsIn_0 (by decide) ?_
  refine J.istore_n (lv' := [(2, .int (0 : Int32)), (0, .ref t), (1, .int a1)]) dX6_meetsIn_1 (by decide) rfl ?_
  refine J.iconst (v := (0 : Int32)) dX6_meetsIn_2 (by decide) ?_
  refine J.istore_n (lv' := [(3, .int (0 : Int32)), (2, .int (0 : Int32)), (0, .ref t), (1, .int a1)]) dX6_meetsIn_3 (by decide) rfl ?_
  obtain ⟨f9, hw⟩ := hw
  exact J.pick [2, 3, 1, 0] rfl (rX6_meetsIn_4 htr hdd hT f9 _ _ _ hw)
theorem fgX6_41 {G : jG} {l : Launch} {M : jM} {d c n pc : Nat} {lv : List (Nat × Value)} {st : List Value} {sh : List jH} {V : Nat → Nat → Int32} {R : Nat → Nat → Option Nat} {post : Option Value → List jC → Prop} {xp : String → List jC → Prop} {t : Nat} (hM : M.1.cls = RX6) (hT : jReg shX6 sh t) (hd : decode M.2.1 pc = .ok (.getfield 41, 3)) (kk : J G l M d c n (pc + 3) lv (.ref (t + 10) :: st) (mk sh V R) post xp) : J G l M d c n pc lv (.ref t :: st) (mk sh V R) post xp := JV.getf (C := RX6) (T0 := TX6) (N := 28) 24 hd hT.1 (hT.at 0 rfl) rfl in_X6 (by decide) (by rw [hM]; exact q2152) rfl rfl kk
abbrev MX6_dry : jM := (yX6_dry, cX6_dry, 5, some .int, [])
theorem uX6_406 {G : jG} {l : Launch} {M : jM} {d c n pc : Nat} {lv : List (Nat × Value)} {rest : List Value} {post : Option Value → List jC → Prop} {xp : String → List jC → Prop} (hM : M.1.cls = RX6) (htr : l.stackTraces = false) {sh : List jH} {V : Nat → Nat → Int32} {R : Nat → Nat → Option Nat} {t : Nat} (hT : jReg shX6 sh t) {a1 : Int32} {Q : Int32 → (Nat → Nat → Int32) → Prop} (hd : decode M.2.1 pc = .ok (.invokevirtual 406, 3)) (hdd : 72 + 1 ≤ d) (hw8 : (rest.map fun v => v.category).sum ≤ 8) (hw : wX6_meetsIn t sh R V a1 Q) (kk : ∀ r V', Q r V' → J G l M d c n (pc + 3) lv (.int r :: rest) (mk sh V' R) post xp) : J G l M d c n pc lv (.int a1 :: .ref t :: rest) (mk sh V R) post xp := by
  exact J.callV (As := [.int a1]) (hcw := by rw [hM]; exact lw_V q2676 q2678 qs137 q152 q2679) (mX6_meetsIn htr (Nat.le_refl _) hT hw) hd rfl ⟨5, _, _, mk_at (hT.at 0 rfl), rfl, rfl, fun _ => rfl⟩ ⟨rfl, by decide, by decide, by show _ = some 1; decide +kernel⟩ hw8 ⟨hdd, by decide⟩ jcc0 (fun r9 g9 h9 => by obtain ⟨V9, rfl, r, rfl, h⟩ := h9; exact kk r V9 h) jNo.x
-- VisitingHoursModel.dry()I
def wX6_dry_119 (t : Nat) (sh : List jH) (R : Nat → Nat → Option Nat) (Q : Int32 → (Nat → Nat → Int32) → Prop) (K38 : (Nat → Nat → Int32) → Int32 → Int32 → Prop) (V : Nat → Nat → Int32) (x1 : Int32) (x2 : Int32) (x3 : Int32) : Prop :=
  ((x3 = 0 → (∀ y125 : Int32, y125 = x2 + (1 : Int32) → K38 V x1 y125)) ∧ (¬ x3 = 0 → (∀ y125 : Int32, y125 = x2 + (1 : Int32) → K38 V x2 y125)))
theorem rX6_dry_119 {G : jG} {l : Launch} {d : Nat} {c n : Nat} (htr : l.stackTraces = false) (hdd : 73 ≤ d) {sh : List jH} {R : Nat → Nat → Option Nat} {t : Nat} (hT : jReg shX6 sh t) {Q : Int32 → (Nat → Nat → Int32) → Prop} {K38 : (Nat → Nat → Int32) → Int32 → Int32 → Prop} (hK38 : ∀ (V : Nat → Nat → Int32) (x1 : Int32) (x2 : Int32), K38 V x1 x2 → J G l MX6_dry d c n 38 [(0, .ref t), (1, .int x1), (2, .int x2)] [] (mk sh V R) (jWr sh R Q) jNo) {V : Nat → Nat → Int32} {x1 : Int32} {x2 : Int32} {x3 : Int32} (hw : wX6_dry_119 t sh R Q K38 V x1 x2 x3) : J G l MX6_dry d c n 119 [(0, .ref t), (1, .int x1), (2, .int x2), (3, .int x3)] [] (mk sh V R) (jWr sh R Q) jNo := by
  unfold wX6_dry_119 at hw
  refine J.iload_n 3 dX6_dry_119 rfl ?_
  refine J.if_eq 125 dX6_dry_120 (by decide) ⟨fun c120 => ?_, fun c120 => ?_⟩
  · obtain ⟨hw, -⟩ := hw
    specialize hw c120
    refine J.iincN 2 (K := (1 : Int32)) (lv' := fun y125 => [(2, .int y125), (0, .ref t), (1, .int x1), (3, .int x3)]) dX6_dry_125 rfl (by decide) (by decide) (fun _ => rfl) hw (fun y125 hw => ?_)
    refine J.goto 38 dX6_dry_128 (by decide) ?_
    exact J.pick [1, 2, 0] rfl (hK38 _ _ _ hw)
  · obtain ⟨-, hw⟩ := hw
    specialize hw c120
    refine J.iload_n 2 dX6_dry_123 rfl ?_
    refine J.istore_n (lv' := [(1, .int x2), (0, .ref t), (2, .int x2), (3, .int x3)]) dX6_dry_124 (by decide) rfl ?_
    refine J.iincN 2 (K := (1 : Int32)) (lv' := fun y125 => [(2, .int y125), (1, .int x2), (0, .ref t), (3, .int x3)]) dX6_dry_125 rfl (by decide) (by decide) (fun _ => rfl) hw (fun y125 hw => ?_)
    refine J.goto 38 dX6_dry_128 (by decide) ?_
    exact J.pick [2, 1, 0] rfl (hK38 _ _ _ hw)
def wX6_dry_70 (t : Nat) (sh : List jH) (R : Nat → Nat → Option Nat) (Q : Int32 → (Nat → Nat → Int32) → Prop) (K38 : (Nat → Nat → Int32) → Int32 → Int32 → Prop) : Nat → (Nat → Nat → Int32) → Int32 → Int32 → Int32 → Int32 → Prop
  | 0, _, _, _, _, _ => False
  | f + 1, V, x1, x2, x3, x4 =>
    (((V (t + 1) 3) ≤ x4 → wX6_dry_119 t sh R Q K38 V x1 x2 x3) ∧ (¬ (V (t + 1) 3) ≤ x4 → ((x3 = 0 → wX6_dry_119 t sh R Q K38 V x1 x2 x3) ∧ (¬ x3 = 0 → (vp_in x4 256 ∧ (((V (t + 10) x4.toNatClampNeg) = 0 → (∀ y113 : Int32, y113 = x4 + (1 : Int32) → wX6_dry_70 t sh R Q K38 f V x1 x2 (1 : Int32) y113)) ∧ (¬ (V (t + 10) x4.toNatClampNeg) = 0 → (vp_in x4 256 ∧ ((((V (t + 10) x4.toNatClampNeg) &&& x2) = 0 → (∀ y113 : Int32, y113 = x4 + (1 : Int32) → wX6_dry_70 t sh R Q K38 f V x1 x2 (0 : Int32) y113)) ∧ (¬ ((V (t + 10) x4.toNatClampNeg) &&& x2) = 0 → (∀ y113 : Int32, y113 = x4 + (1 : Int32) → wX6_dry_70 t sh R Q K38 f V x1 x2 (1 : Int32) y113)))))))))))
theorem rX6_dry_70 {G : jG} {l : Launch} {d : Nat} {c n : Nat} (htr : l.stackTraces = false) (hdd : 73 ≤ d) {sh : List jH} {R : Nat → Nat → Option Nat} {t : Nat} (hT : jReg shX6 sh t) {Q : Int32 → (Nat → Nat → Int32) → Prop} {K38 : (Nat → Nat → Int32) → Int32 → Int32 → Prop} (hK38 : ∀ (V : Nat → Nat → Int32) (x1 : Int32) (x2 : Int32), K38 V x1 x2 → J G l MX6_dry d c n 38 [(0, .ref t), (1, .int x1), (2, .int x2)] [] (mk sh V R) (jWr sh R Q) jNo) : ∀ (f : Nat) (V : Nat → Nat → Int32) (x1 : Int32) (x2 : Int32) (x3 : Int32) (x4 : Int32), wX6_dry_70 t sh R Q K38 f V x1 x2 x3 x4 → J G l MX6_dry d c n 70 [(0, .ref t), (1, .int x1), (2, .int x2), (3, .int x3), (4, .int x4)] [] (mk sh V R) (jWr sh R Q) jNo := by
  intro f
  induction f with
  | zero =>
    intro V x1 x2 x3 x4 hw
    rw [wX6_dry_70] at hw
    exact hw.elim
  | succ f ih =>
    intro V x1 x2 x3 x4 hw
    rw [wX6_dry_70] at hw
    refine J.iload 4 dX6_dry_70 rfl ?_
    refine J.aload_n 0 dX6_dry_72 rfl ?_
    refine fgX6_7 rfl hT dX6_dry_73 ?_
    refine J.iconst (v := (3 : Int32)) dX6_dry_76 (by decide) ?_
    refine JV.ialdK 3 dX6_dry_77 (hT.ge 1) (hT.at 1 rfl) rfl (by decide) (by decide) ?_
    refine J.icmp_ge 119 dX6_dry_78 (by decide) ⟨fun c78 => ?_, fun c78 => ?_⟩
    · obtain ⟨hw, -⟩ := hw
      specialize hw c78
      exact J.pick [0, 1, 2, 3] rfl (rX6_dry_119 htr hdd hT hK38 hw)
    · obtain ⟨-, hw⟩ := hw
      specialize hw c78
      refine J.iload_n 3 dX6_dry_81 rfl ?_
      refine J.if_eq 119 dX6_dry_82 (by decide) ⟨fun c82 => ?_, fun c82 => ?_⟩
      · obtain ⟨hw, -⟩ := hw
        specialize hw c82
        exact J.pick [0, 1, 2, 3] rfl (rX6_dry_119 htr hdd hT hK38 hw)
      · obtain ⟨-, hw⟩ := hw
        specialize hw c82
        refine J.aload_n 0 dX6_dry_85 rfl ?_
        refine fgX6_41 rfl hT dX6_dry_86 ?_
        refine J.iload 4 dX6_dry_89 rfl ?_
        obtain ⟨h91, hw⟩ := hw
        refine JV.iald dX6_dry_91 (hT.ge 10) (hT.at 10 rfl) h91 ?_
        refine J.if_eq 107 dX6_dry_92 (by decide) ⟨fun c92 => ?_, fun c92 => ?_⟩
        · obtain ⟨hw, -⟩ := hw
          specialize hw c92
          refine J.iconst (v := (1 : Int32)) dX6_dry_107 (by decide) ?_
          refine J.goto 112 dX6_dry_108 (by decide) ?_
          refine J.istore_n (lv' := [(3, .int (1 : Int32)), (0, .ref t), (1, .int x1), (2, .int x2), (4, .int x4)]) dX6_dry_112 (by decide) rfl ?_
          refine J.iincN 4 (K := (1 : Int32)) (lv' := fun y113 => [(4, .int y113), (3, .int (1 : Int32)), (0, .ref t), (1, .int x1), (2, .int x2)]) dX6_dry_113 rfl (by decide) (by decide) (fun _ => rfl) hw (fun y113 hw => ?_)
          refine J.goto 70 dX6_dry_116 (by decide) ?_
          exact J.pick [2, 3, 4, 1, 0] rfl (ih _ _ _ _ _ hw)
        · obtain ⟨-, hw⟩ := hw
          specialize hw c92
          refine J.aload_n 0 dX6_dry_95 rfl ?_
          refine fgX6_41 rfl hT dX6_dry_96 ?_
          refine J.iload 4 dX6_dry_99 rfl ?_
          obtain ⟨h101, hw⟩ := hw
          refine JV.iald dX6_dry_101 (hT.ge 10) (hT.at 10 rfl) h101 ?_
          refine J.iload_n 2 dX6_dry_102 rfl ?_
          refine J.iand dX6_dry_103 ?_
          refine J.if_eq 111 dX6_dry_104 (by decide) ⟨fun c104 => ?_, fun c104 => ?_⟩
          · obtain ⟨hw, -⟩ := hw
            specialize hw c104
            refine J.iconst (v := (0 : Int32)) dX6_dry_111 (by decide) ?_
            refine J.istore_n (lv' := [(3, .int (0 : Int32)), (0, .ref t), (1, .int x1), (2, .int x2), (4, .int x4)]) dX6_dry_112 (by decide) rfl ?_
            refine J.iincN 4 (K := (1 : Int32)) (lv' := fun y113 => [(4, .int y113), (3, .int (0 : Int32)), (0, .ref t), (1, .int x1), (2, .int x2)]) dX6_dry_113 rfl (by decide) (by decide) (fun _ => rfl) hw (fun y113 hw => ?_)
            refine J.goto 70 dX6_dry_116 (by decide) ?_
            exact J.pick [2, 3, 4, 1, 0] rfl (ih _ _ _ _ _ hw)
          · obtain ⟨-, hw⟩ := hw
            specialize hw c104
            refine J.iconst (v := (1 : Int32)) dX6_dry_107 (by decide) ?_
            refine J.goto 112 dX6_dry_108 (by decide) ?_
            refine J.istore_n (lv' := [(3, .int (1 : Int32)), (0, .ref t), (1, .int x1), (2, .int x2), (4, .int x4)]) dX6_dry_112 (by decide) rfl ?_
            refine J.iincN 4 (K := (1 : Int32)) (lv' := fun y113 => [(4, .int y113), (3, .int (1 : Int32)), (0, .ref t), (1, .int x1), (2, .int x2)]) dX6_dry_113 rfl (by decide) (by decide) (fun _ => rfl) hw (fun y113 hw => ?_)
            refine J.goto 70 dX6_dry_116 (by decide) ?_
            exact J.pick [2, 3, 4, 1, 0] rfl (ih _ _ _ _ _ hw)
def wX6_dry_38 (t : Nat) (sh : List jH) (R : Nat → Nat → Option Nat) (Q : Int32 → (Nat → Nat → Int32) → Prop) : Nat → (Nat → Nat → Int32) → Int32 → Int32 → Prop
  | 0, _, _, _ => False
  | f + 1, V, x1, x2 =>
    (((256 : Int32) ≤ x2 → Q x1 V) ∧ (¬ (256 : Int32) ≤ x2 → ((x1 = (-1 : Int32) → (∃ f9, wX6_dry_70 t sh R Q (fun V x1 x2 => wX6_dry_38 t sh R Q f V x1 x2) f9 V x1 x2 (1 : Int32) (0 : Int32))) ∧ (¬ x1 = (-1 : Int32) → (wX6_bits x2 (fun r51 => (wX6_bits x1 (fun r55 => ((r55 ≤ r51 → (∃ f9, wX6_dry_70 t sh R Q (fun V x1 x2 => wX6_dry_38 t sh R Q f V x1 x2) f9 V x1 x2 (0 : Int32) (0 : Int32))) ∧ (¬ r55 ≤ r51 → (∃ f9, wX6_dry_70 t sh R Q (fun V x1 x2 => wX6_dry_38 t sh R Q f V x1 x2) f9 V x1 x2 (1 : Int32) (0 : Int32))))))))))))
theorem rX6_dry_38 {G : jG} {l : Launch} {d : Nat} {c n : Nat} (htr : l.stackTraces = false) (hdd : 73 ≤ d) {sh : List jH} {R : Nat → Nat → Option Nat} {t : Nat} (hT : jReg shX6 sh t) {Q : Int32 → (Nat → Nat → Int32) → Prop} : ∀ (f : Nat) (V : Nat → Nat → Int32) (x1 : Int32) (x2 : Int32), wX6_dry_38 t sh R Q f V x1 x2 → J G l MX6_dry d c n 38 [(0, .ref t), (1, .int x1), (2, .int x2)] [] (mk sh V R) (jWr sh R Q) jNo := by
  intro f
  induction f with
  | zero =>
    intro V x1 x2 hw
    rw [wX6_dry_38] at hw
    exact hw.elim
  | succ f ih =>
    intro V x1 x2 hw
    rw [wX6_dry_38] at hw
    refine J.iload_n 2 dX6_dry_38 rfl ?_
    refine J.sipush (v := (256 : Int32)) dX6_dry_39 (by decide) ?_
    refine J.icmp_ge 131 dX6_dry_42 (by decide) ⟨fun c42 => ?_, fun c42 => ?_⟩
    · obtain ⟨hw, -⟩ := hw
      specialize hw c42
      refine J.iload_n 1 dX6_dry_131 rfl ?_
      exact J.iret rfl dX6_dry_132 ⟨_, rfl, _, rfl, hw⟩
    · obtain ⟨-, hw⟩ := hw
      specialize hw c42
      refine J.iload_n 1 dX6_dry_45 rfl ?_
      refine J.iconst (v := (-1 : Int32)) dX6_dry_46 (by decide) ?_
      refine J.icmp_eq 61 dX6_dry_47 (by decide) ⟨fun c47 => ?_, fun c47 => ?_⟩
      · obtain ⟨hw, -⟩ := hw
        specialize hw c47
        refine J.iconst (v := (1 : Int32)) dX6_dry_61 (by decide) ?_
        refine J.goto 66 dX6_dry_62 (by decide) ?_
        refine J.istore_n (lv' := [(3, .int (1 : Int32)), (0, .ref t), (1, .int x1), (2, .int x2)]) dX6_dry_66 (by decide) rfl ?_
        refine J.iconst (v := (0 : Int32)) dX6_dry_67 (by decide) ?_
        refine J.istore (lv' := [(4, .int (0 : Int32)), (3, .int (1 : Int32)), (0, .ref t), (1, .int x1), (2, .int x2)]) dX6_dry_68 (by decide) rfl ?_
        obtain ⟨f9, hw⟩ := hw
        exact J.pick [2, 3, 4, 1, 0] rfl (rX6_dry_70 htr hdd hT ih f9 _ _ _ _ _ hw)
      · obtain ⟨-, hw⟩ := hw
        specialize hw c47
        refine J.iload_n 2 dX6_dry_50 rfl ?_
        refine uX6_303 rfl htr dX6_dry_51 (by omega) (Nat.le_of_ble_eq_true rfl) hw ?_
        clear hw
        intro r51 hw
        refine J.iload_n 1 dX6_dry_54 rfl ?_
        refine uX6_303 rfl htr dX6_dry_55 (by omega) (Nat.le_of_ble_eq_true rfl) hw ?_
        clear hw
        intro r55 hw
        refine J.icmp_ge 65 dX6_dry_58 (by decide) ⟨fun c58 => ?_, fun c58 => ?_⟩
        · obtain ⟨hw, -⟩ := hw
          specialize hw c58
          refine J.iconst (v := (0 : Int32)) dX6_dry_65 (by decide) ?_
          refine J.istore_n (lv' := [(3, .int (0 : Int32)), (0, .ref t), (1, .int x1), (2, .int x2)]) dX6_dry_66 (by decide) rfl ?_
          refine J.iconst (v := (0 : Int32)) dX6_dry_67 (by decide) ?_
          refine J.istore (lv' := [(4, .int (0 : Int32)), (3, .int (0 : Int32)), (0, .ref t), (1, .int x1), (2, .int x2)]) dX6_dry_68 (by decide) rfl ?_
          obtain ⟨f9, hw⟩ := hw
          exact J.pick [2, 3, 4, 1, 0] rfl (rX6_dry_70 htr hdd hT ih f9 _ _ _ _ _ hw)
        · obtain ⟨-, hw⟩ := hw
          specialize hw c58
          refine J.iconst (v := (1 : Int32)) dX6_dry_61 (by decide) ?_
          refine J.goto 66 dX6_dry_62 (by decide) ?_
          refine J.istore_n (lv' := [(3, .int (1 : Int32)), (0, .ref t), (1, .int x1), (2, .int x2)]) dX6_dry_66 (by decide) rfl ?_
          refine J.iconst (v := (0 : Int32)) dX6_dry_67 (by decide) ?_
          refine J.istore (lv' := [(4, .int (0 : Int32)), (3, .int (1 : Int32)), (0, .ref t), (1, .int x1), (2, .int x2)]) dX6_dry_68 (by decide) rfl ?_
          obtain ⟨f9, hw⟩ := hw
          exact J.pick [2, 3, 4, 1, 0] rfl (rX6_dry_70 htr hdd hT ih f9 _ _ _ _ _ hw)
def wX6_dry_7 (t : Nat) (sh : List jH) (R : Nat → Nat → Option Nat) (Q : Int32 → (Nat → Nat → Int32) → Prop) : Nat → (Nat → Nat → Int32) → Int32 → Prop
  | 0, _, _ => False
  | f + 1, V, x1 =>
    (((V (t + 1) 3) ≤ x1 → (∃ f9, wX6_dry_38 t sh R Q f9 V (-1 : Int32) (0 : Int32))) ∧ (¬ (V (t + 1) 3) ≤ x1 → (wX6_meetsIn t sh R V x1 (fun r24 V24 => (vp_in x1 256 ∧ (∀ y28 : Int32, y28 = x1 + (1 : Int32) → wX6_dry_7 t sh R Q f (vset V24 (t + 10) x1.toNatClampNeg r24) y28))))))
theorem rX6_dry_7 {G : jG} {l : Launch} {d : Nat} {c n : Nat} (htr : l.stackTraces = false) (hdd : 73 ≤ d) {sh : List jH} {R : Nat → Nat → Option Nat} {t : Nat} (hT : jReg shX6 sh t) {Q : Int32 → (Nat → Nat → Int32) → Prop} : ∀ (f : Nat) (V : Nat → Nat → Int32) (x1 : Int32), wX6_dry_7 t sh R Q f V x1 → J G l MX6_dry d c n 7 [(0, .ref t), (1, .int x1)] [] (mk sh V R) (jWr sh R Q) jNo := by
  intro f
  induction f with
  | zero =>
    intro V x1 hw
    rw [wX6_dry_7] at hw
    exact hw.elim
  | succ f ih =>
    intro V x1 hw
    rw [wX6_dry_7] at hw
    refine J.iload_n 1 dX6_dry_7 rfl ?_
    refine J.aload_n 0 dX6_dry_8 rfl ?_
    refine fgX6_7 rfl hT dX6_dry_9 ?_
    refine J.iconst (v := (3 : Int32)) dX6_dry_12 (by decide) ?_
    refine JV.ialdK 3 dX6_dry_13 (hT.ge 1) (hT.at 1 rfl) rfl (by decide) (by decide) ?_
    refine J.icmp_ge 34 dX6_dry_14 (by decide) ⟨fun c14 => ?_, fun c14 => ?_⟩
    · obtain ⟨hw, -⟩ := hw
      specialize hw c14
      refine J.iconst (v := (-1 : Int32)) dX6_dry_34 (by decide) ?_
      refine J.istore_n (lv' := [(1, .int (-1 : Int32)), (0, .ref t)]) dX6_dry_35 (by decide) rfl ?_
      refine J.iconst (v := (0 : Int32)) dX6_dry_36 (by decide) ?_
      refine J.istore_n (lv' := [(2, .int (0 : Int32)), (1, .int (-1 : Int32)), (0, .ref t)]) dX6_dry_37 (by decide) rfl ?_
      obtain ⟨f9, hw⟩ := hw
      exact J.pick [2, 1, 0] rfl (rX6_dry_38 htr hdd hT f9 _ _ _ hw)
    · obtain ⟨-, hw⟩ := hw
      specialize hw c14
      refine J.aload_n 0 dX6_dry_17 rfl ?_
      refine fgX6_41 rfl hT dX6_dry_18 ?_
      refine J.iload_n 1 dX6_dry_21 rfl ?_
      refine J.aload_n 0 dX6_dry_22 rfl ?_
      refine J.iload_n 1 dX6_dry_23 rfl ?_
      refine uX6_406 rfl htr hT dX6_dry_24 (by omega) (Nat.le_of_ble_eq_true rfl) hw ?_
      clear hw
      intro r24 V24 hw
      obtain ⟨h27, hw⟩ := hw
      refine JV.iast dX6_dry_27 (hT.ge 10) (hT.at 10 rfl) h27 ?_
      refine J.iincN 1 (K := (1 : Int32)) (lv' := fun y28 => [(1, .int y28), (0, .ref t)]) dX6_dry_28 rfl (by decide) (by decide) (fun _ => rfl) hw (fun y28 hw => ?_)
      refine J.goto 7 dX6_dry_31 (by decide) ?_
      exact J.pick [1, 0] rfl (ih _ _ hw)
def wX6_dry (t : Nat) (sh : List jH) (R : Nat → Nat → Option Nat) (V : Nat → Nat → Int32) (Q : Int32 → (Nat → Nat → Int32) → Prop) : Prop :=
  (∃ f9, wX6_dry_7 t sh R Q f9 (vset V t 0 (0 : Int32)) (0 : Int32))
theorem mX6_dry {G : jG} {l : Launch} {d : Nat} (htr : l.stackTraces = false) (hdd : 73 ≤ d) {sh : List jH} {R : Nat → Nat → Option Nat} {V : Nat → Nat → Int32} {t : Nat} (hT : jReg shX6 sh t) {Q : Int32 → (Nat → Nat → Int32) → Prop} (hw : wX6_dry t sh R V Q) : JM G l MX6_dry d 0 0 [.ref t] (mk sh V R) (jWr sh R Q) jNo := by
  refine JM.intro (by decide) rfl htr (Nat.le_of_ble_eq_true rfl) ?_
  show J G l MX6_dry d 0 0 0 [(0, .ref t)] [] (mk sh V R) _ _
  unfold wX6_dry at hw
  refine J.aload_n 0 dX6_dry_0 rfl ?_
  refine J.iconst (v := (0 : Int32)) dX6_dry_1 (by decide) ?_
  refine fpX6_54 rfl hT dX6_dry_2 ?_
  refine J.iconst (v := (0 : Int32)) dX6_dry_5 (by decide) ?_
  refine J.istore_n (lv' := [(1, .int (0 : Int32)), (0, .ref t)]) dX6_dry_6 (by decide) rfl ?_
  obtain ⟨f9, hw⟩ := hw
  exact J.pick [1, 0] rfl (rX6_dry_7 htr hdd hT f9 _ _ hw)
abbrev MX6_saved : jM := (yX6_saved, cX6_saved, 10, some .int, [])
theorem uX6_310 {G : jG} {l : Launch} {M : jM} {d c n pc : Nat} {lv : List (Nat × Value)} {rest : List Value} {post : Option Value → List jC → Prop} {xp : String → List jC → Prop} (hM : M.1.cls = RX6) (htr : l.stackTraces = false) {sh : List jH} {V : Nat → Nat → Int32} {R : Nat → Nat → Option Nat} {t : Nat} (hT : jReg shX6 sh t) {a1 : Int32} {Q : Int32 → Prop} (hd : decode M.2.1 pc = .ok (.invokevirtual 310, 3)) (hdd : 1 + 1 ≤ d) (hw8 : (rest.map fun v => v.category).sum ≤ 8) (hw : wX6_isHost t V a1 Q) (kk : ∀ r, Q r → J G l M d c n (pc + 3) lv (.int r :: rest) (mk sh V R) post xp) : J G l M d c n pc lv (.int a1 :: .ref t :: rest) (mk sh V R) post xp := by
  exact J.callV (As := [.int a1]) (hcw := by rw [hM]; exact lw_V q2387 q2389 qs96 q152 q2390) (mX6_isHost htr hT hw) hd rfl ⟨5, _, _, mk_at (hT.at 0 rfl), rfl, rfl, fun _ => rfl⟩ ⟨rfl, by decide, by decide, by show _ = some 1; decide +kernel⟩ hw8 ⟨hdd, by decide⟩ jcc0 (fun r9 g9 h9 => by obtain ⟨rfl, r, rfl, h⟩ := h9; exact kk r h) jNo.x
theorem uX6_313 {G : jG} {l : Launch} {M : jM} {d c n pc : Nat} {lv : List (Nat × Value)} {rest : List Value} {post : Option Value → List jC → Prop} {xp : String → List jC → Prop} (hM : M.1.cls = RX6) (htr : l.stackTraces = false) {sh : List jH} {V : Nat → Nat → Int32} {R : Nat → Nat → Option Nat} {t : Nat} (hT : jReg shX6 sh t) {a1 : Int32} {Q : Int32 → Prop} (hd : decode M.2.1 pc = .ok (.invokevirtual 313, 3)) (hdd : 1 + 1 ≤ d) (hw8 : (rest.map fun v => v.category).sum ≤ 8) (hw : wX6_freeOf t V a1 Q) (kk : ∀ r, Q r → J G l M d c n (pc + 3) lv (.int r :: rest) (mk sh V R) post xp) : J G l M d c n pc lv (.int a1 :: .ref t :: rest) (mk sh V R) post xp := by
  exact J.callV (As := [.int a1]) (hcw := by rw [hM]; exact lw_V q2395 q2397 qs98 q152 q2398) (mX6_freeOf htr hT hw) hd rfl ⟨5, _, _, mk_at (hT.at 0 rfl), rfl, rfl, fun _ => rfl⟩ ⟨rfl, by decide, by decide, by show _ = some 1; decide +kernel⟩ hw8 ⟨hdd, by decide⟩ jcc0 (fun r9 g9 h9 => by obtain ⟨rfl, r, rfl, h⟩ := h9; exact kk r h) jNo.x
theorem uX6_325 {G : jG} {l : Launch} {M : jM} {d c n pc : Nat} {lv : List (Nat × Value)} {rest : List Value} {post : Option Value → List jC → Prop} {xp : String → List jC → Prop} (hM : M.1.cls = RX6) (htr : l.stackTraces = false) {sh : List jH} {V : Nat → Nat → Int32} {R : Nat → Nat → Option Nat} {t : Nat} (hT : jReg shX6 sh t) {a1 : Int32} {Q : Int32 → Prop} (hd : decode M.2.1 pc = .ok (.invokevirtual 325, 3)) (hdd : 1 + 1 ≤ d) (hw8 : (rest.map fun v => v.category).sum ≤ 8) (hw : wX6_busyOf t V a1 Q) (kk : ∀ r, Q r → J G l M d c n (pc + 3) lv (.int r :: rest) (mk sh V R) post xp) : J G l M d c n pc lv (.int a1 :: .ref t :: rest) (mk sh V R) post xp := by
  exact J.callV (As := [.int a1]) (hcw := by rw [hM]; exact lw_V q2423 q2425 qs104 q152 q2426) (mX6_busyOf htr hT hw) hd rfl ⟨5, _, _, mk_at (hT.at 0 rfl), rfl, rfl, fun _ => rfl⟩ ⟨rfl, by decide, by decide, by show _ = some 1; decide +kernel⟩ hw8 ⟨hdd, by decide⟩ jcc0 (fun r9 g9 h9 => by obtain ⟨rfl, r, rfl, h⟩ := h9; exact kk r h) jNo.x
-- VisitingHoursModel.saved(II)I
def wX6_saved_239 (t : Nat) (sh : List jH) (R : Nat → Nat → Option Nat) (a1 : Int32) (a2 : Int32) (Q : Int32 → (Nat → Nat → Int32) → Prop) : Nat → (Nat → Nat → Int32) → Int32 → Int32 → Prop
  | 0, _, _, _ => False
  | f + 1, V, x5, x6 =>
    (((256 : Int32) ≤ x6 → Q x5 V) ∧ (¬ (256 : Int32) ≤ x6 → (vp_in x6 256 ∧ (wX6_greater x5 (V (t + 10) x6.toNatClampNeg) (fun r256 => (∀ y261 : Int32, y261 = x6 + (1 : Int32) → wX6_saved_239 t sh R a1 a2 Q f V r256 y261))))))
theorem rX6_saved_239 {G : jG} {l : Launch} {d : Nat} {c n : Nat} (htr : l.stackTraces = false) (hdd : 73 ≤ d) {sh : List jH} {R : Nat → Nat → Option Nat} {t : Nat} (hT : jReg shX6 sh t) {a1 : Int32} {a2 : Int32} {Q : Int32 → (Nat → Nat → Int32) → Prop} : ∀ (f : Nat) (V : Nat → Nat → Int32) (x5 : Int32) (x6 : Int32), wX6_saved_239 t sh R a1 a2 Q f V x5 x6 → J G l MX6_saved d c n 239 [(0, .ref t), (5, .int x5), (6, .int x6)] [] (mk sh V R) (jWr sh R Q) jNo := by
  intro f
  induction f with
  | zero =>
    intro V x5 x6 hw
    rw [wX6_saved_239] at hw
    exact hw.elim
  | succ f ih =>
    intro V x5 x6 hw
    rw [wX6_saved_239] at hw
    refine J.iload 2 dX6_saved_239 rfl ?_
    refine J.sipush (v := (256 : Int32)) dX6_saved_241 (by decide) ?_
    refine J.icmp_ge 267 dX6_saved_244 (by decide) ⟨fun c244 => ?_, fun c244 => ?_⟩
    · obtain ⟨hw, -⟩ := hw
      specialize hw c244
      refine J.iload 1 dX6_saved_267 rfl ?_
      exact J.iret rfl dX6_saved_269 ⟨_, rfl, _, rfl, hw⟩
    · obtain ⟨-, hw⟩ := hw
      specialize hw c244
      refine J.iload 1 dX6_saved_247 rfl ?_
      refine J.aload_n 0 dX6_saved_249 rfl ?_
      refine fgX6_41 rfl hT dX6_saved_250 ?_
      refine J.iload 2 dX6_saved_253 rfl ?_
      obtain ⟨h255, hw⟩ := hw
      refine JV.iald dX6_saved_255 (hT.ge 10) (hT.at 10 rfl) h255 ?_
      refine uX6_277 rfl htr dX6_saved_256 (by omega) (Nat.le_of_ble_eq_true rfl) hw ?_
      clear hw
      intro r256 hw
      refine J.istore (lv' := [(5, .int r256), (0, .ref t), (6, .int x6)]) dX6_saved_259 (by decide) rfl ?_
      refine J.iincN 2 (K := (1 : Int32)) (lv' := fun y261 => [(6, .int y261), (5, .int r256), (0, .ref t)]) dX6_saved_261 rfl (by decide) (by decide) (fun _ => rfl) hw (fun y261 hw => ?_)
      refine J.goto 239 dX6_saved_264 (by decide) ?_
      exact J.pick [2, 1, 0] rfl (ih _ _ _ hw)
def wX6_saved_144 (t : Nat) (sh : List jH) (R : Nat → Nat → Option Nat) (a1 : Int32) (a2 : Int32) (Q : Int32 → (Nat → Nat → Int32) → Prop) (K82 : (Nat → Nat → Int32) → Int32 → Int32 → Int32 → Prop) (K136 : (Nat → Nat → Int32) → Int32 → Int32 → Int32 → Int32 → Int32 → Prop) : Nat → (Nat → Nat → Int32) → Int32 → Int32 → Int32 → Int32 → Int32 → Int32 → Prop
  | 0, _, _, _, _, _, _, _ => False
  | f + 1, V, x3, x4, x5, x7, x8, x9 =>
    (((8 : Int32) ≤ x9 → (∀ y221 : Int32, y221 = x8 + (-1 : Int32) → K136 V x3 x4 x5 x7 y221)) ∧ (¬ (8 : Int32) ≤ x9 → (wX6_isOf (x8 &&& x7) x9 (fun r158 => ((r158 = 0 → (∀ y215 : Int32, y215 = x9 + (1 : Int32) → wX6_saved_144 t sh R a1 a2 Q K82 K136 f V x3 x4 x5 x7 x8 y215)) ∧ (¬ r158 = 0 → (vp_in (x8 &&& (((1 : Int32) <<< (x9 &&& 31)) ^^^ (-1 : Int32))) 256 ∧ (((V (t + 10) (x8 &&& (((1 : Int32) <<< (x9 &&& 31)) ^^^ (-1 : Int32))).toNatClampNeg) = (-1 : Int32) → (∀ y215 : Int32, y215 = x9 + (1 : Int32) → wX6_saved_144 t sh R a1 a2 Q K82 K136 f V x3 x4 x5 x7 x8 y215)) ∧ (¬ (V (t + 10) (x8 &&& (((1 : Int32) <<< (x9 &&& 31)) ^^^ (-1 : Int32))).toNatClampNeg) = (-1 : Int32) → (vp_in x8 256 ∧ (vp_in (x8 &&& (((1 : Int32) <<< (x9 &&& 31)) ^^^ (-1 : Int32))) 256 ∧ (wX6_greater (V (t + 10) x8.toNatClampNeg) ((V (t + 10) (x8 &&& (((1 : Int32) <<< (x9 &&& 31)) ^^^ (-1 : Int32))).toNatClampNeg) + (1 : Int32)) (fun r211 => (vp_in x8 256 ∧ (∀ y215 : Int32, y215 = x9 + (1 : Int32) → wX6_saved_144 t sh R a1 a2 Q K82 K136 f (vset V (t + 10) x8.toNatClampNeg r211) x3 x4 x5 x7 x8 y215)))))))))))))))
theorem rX6_saved_144 {G : jG} {l : Launch} {d : Nat} {c n : Nat} (htr : l.stackTraces = false) (hdd : 73 ≤ d) {sh : List jH} {R : Nat → Nat → Option Nat} {t : Nat} (hT : jReg shX6 sh t) {a1 : Int32} {a2 : Int32} {Q : Int32 → (Nat → Nat → Int32) → Prop} {K82 : (Nat → Nat → Int32) → Int32 → Int32 → Int32 → Prop} {K136 : (Nat → Nat → Int32) → Int32 → Int32 → Int32 → Int32 → Int32 → Prop} (hK82 : ∀ (V : Nat → Nat → Int32) (x3 : Int32) (x4 : Int32) (x5 : Int32), K82 V x3 x4 x5 → J G l MX6_saved d c n 82 [(0, .ref t), (1, .int a1), (3, .int x3), (4, .int x4), (5, .int x5)] [] (mk sh V R) (jWr sh R Q) jNo) (hK136 : ∀ (V : Nat → Nat → Int32) (x3 : Int32) (x4 : Int32) (x5 : Int32) (x7 : Int32) (x8 : Int32), K136 V x3 x4 x5 x7 x8 → J G l MX6_saved d c n 136 [(0, .ref t), (1, .int a1), (3, .int x3), (4, .int x4), (5, .int x5), (7, .int x7), (8, .int x8)] [] (mk sh V R) (jWr sh R Q) jNo) : ∀ (f : Nat) (V : Nat → Nat → Int32) (x3 : Int32) (x4 : Int32) (x5 : Int32) (x7 : Int32) (x8 : Int32) (x9 : Int32), wX6_saved_144 t sh R a1 a2 Q K82 K136 f V x3 x4 x5 x7 x8 x9 → J G l MX6_saved d c n 144 [(0, .ref t), (1, .int a1), (3, .int x3), (4, .int x4), (5, .int x5), (7, .int x7), (8, .int x8), (9, .int x9)] [] (mk sh V R) (jWr sh R Q) jNo := by
  intro f
  induction f with
  | zero =>
    intro V x3 x4 x5 x7 x8 x9 hw
    rw [wX6_saved_144] at hw
    exact hw.elim
  | succ f ih =>
    intro V x3 x4 x5 x7 x8 x9 hw
    rw [wX6_saved_144] at hw
    refine J.iload 7 dX6_saved_144 rfl ?_
    refine J.bipush (v := (8 : Int32)) dX6_saved_146 (by decide) ?_
    refine J.icmp_ge 221 dX6_saved_148 (by decide) ⟨fun c148 => ?_, fun c148 => ?_⟩
    · obtain ⟨hw, -⟩ := hw
      specialize hw c148
      refine J.iincN 6 (K := (-1 : Int32)) (lv' := fun y221 => [(8, .int y221), (0, .ref t), (1, .int a1), (3, .int x3), (4, .int x4), (5, .int x5), (7, .int x7), (9, .int x9)]) dX6_saved_221 rfl (by decide) (by decide) (fun _ => rfl) hw (fun y221 hw => ?_)
      refine J.goto 136 dX6_saved_224 (by decide) ?_
      exact J.pick [1, 2, 3, 4, 5, 6, 0] rfl (hK136 _ _ _ _ _ _ hw)
    · obtain ⟨-, hw⟩ := hw
      specialize hw c148
      refine J.iload 6 dX6_saved_151 rfl ?_
      refine J.iload 5 dX6_saved_153 rfl ?_
      refine J.iand dX6_saved_155 ?_
      refine J.iload 7 dX6_saved_156 rfl ?_
      refine uX6_74 rfl htr dX6_saved_158 (by omega) (Nat.le_of_ble_eq_true rfl) hw ?_
      clear hw
      intro r158 hw
      refine J.if_eq 215 dX6_saved_161 (by decide) ⟨fun c161 => ?_, fun c161 => ?_⟩
      · obtain ⟨hw, -⟩ := hw
        specialize hw c161
        refine J.iincN 7 (K := (1 : Int32)) (lv' := fun y215 => [(9, .int y215), (0, .ref t), (1, .int a1), (3, .int x3), (4, .int x4), (5, .int x5), (7, .int x7), (8, .int x8)]) dX6_saved_215 rfl (by decide) (by decide) (fun _ => rfl) hw (fun y215 hw => ?_)
        refine J.goto 144 dX6_saved_218 (by decide) ?_
        exact J.pick [1, 2, 3, 4, 5, 6, 7, 0] rfl (ih _ _ _ _ _ _ _ hw)
      · obtain ⟨-, hw⟩ := hw
        specialize hw c161
        refine J.aload_n 0 dX6_saved_164 rfl ?_
        refine fgX6_41 rfl hT dX6_saved_165 ?_
        refine J.iload 6 dX6_saved_168 rfl ?_
        refine J.iconst (v := (1 : Int32)) dX6_saved_170 (by decide) ?_
        refine J.iload 7 dX6_saved_171 rfl ?_
        refine J.ishl dX6_saved_173 ?_
        refine J.iconst (v := (-1 : Int32)) dX6_saved_174 (by decide) ?_
        refine J.ixor dX6_saved_175 ?_
        refine J.iand dX6_saved_176 ?_
        obtain ⟨h177, hw⟩ := hw
        refine JV.iald dX6_saved_177 (hT.ge 10) (hT.at 10 rfl) h177 ?_
        refine J.iconst (v := (-1 : Int32)) dX6_saved_178 (by decide) ?_
        refine J.icmp_eq 215 dX6_saved_179 (by decide) ⟨fun c179 => ?_, fun c179 => ?_⟩
        · obtain ⟨hw, -⟩ := hw
          specialize hw c179
          refine J.iincN 7 (K := (1 : Int32)) (lv' := fun y215 => [(9, .int y215), (0, .ref t), (1, .int a1), (3, .int x3), (4, .int x4), (5, .int x5), (7, .int x7), (8, .int x8)]) dX6_saved_215 rfl (by decide) (by decide) (fun _ => rfl) hw (fun y215 hw => ?_)
          refine J.goto 144 dX6_saved_218 (by decide) ?_
          exact J.pick [1, 2, 3, 4, 5, 6, 7, 0] rfl (ih _ _ _ _ _ _ _ hw)
        · obtain ⟨-, hw⟩ := hw
          specialize hw c179
          refine J.aload_n 0 dX6_saved_182 rfl ?_
          refine fgX6_41 rfl hT dX6_saved_183 ?_
          refine J.iload 6 dX6_saved_186 rfl ?_
          refine J.aload_n 0 dX6_saved_188 rfl ?_
          refine fgX6_41 rfl hT dX6_saved_189 ?_
          refine J.iload 6 dX6_saved_192 rfl ?_
          obtain ⟨h194, hw⟩ := hw
          refine JV.iald dX6_saved_194 (hT.ge 10) (hT.at 10 rfl) h194 ?_
          refine J.aload_n 0 dX6_saved_195 rfl ?_
          refine fgX6_41 rfl hT dX6_saved_196 ?_
          refine J.iload 6 dX6_saved_199 rfl ?_
          refine J.iconst (v := (1 : Int32)) dX6_saved_201 (by decide) ?_
          refine J.iload 7 dX6_saved_202 rfl ?_
          refine J.ishl dX6_saved_204 ?_
          refine J.iconst (v := (-1 : Int32)) dX6_saved_205 (by decide) ?_
          refine J.ixor dX6_saved_206 ?_
          refine J.iand dX6_saved_207 ?_
          obtain ⟨h208, hw⟩ := hw
          refine JV.iald dX6_saved_208 (hT.ge 10) (hT.at 10 rfl) h208 ?_
          refine J.iconst (v := (1 : Int32)) dX6_saved_209 (by decide) ?_
          refine J.iadd dX6_saved_210 ?_
          refine uX6_277 rfl htr dX6_saved_211 (by omega) (Nat.le_of_ble_eq_true rfl) hw ?_
          clear hw
          intro r211 hw
          obtain ⟨h214, hw⟩ := hw
          refine JV.iast dX6_saved_214 (hT.ge 10) (hT.at 10 rfl) h214 ?_
          refine J.iincN 7 (K := (1 : Int32)) (lv' := fun y215 => [(9, .int y215), (0, .ref t), (1, .int a1), (3, .int x3), (4, .int x4), (5, .int x5), (7, .int x7), (8, .int x8)]) dX6_saved_215 rfl (by decide) (by decide) (fun _ => rfl) hw (fun y215 hw => ?_)
          refine J.goto 144 dX6_saved_218 (by decide) ?_
          exact J.pick [1, 2, 3, 4, 5, 6, 7, 0] rfl (ih _ _ _ _ _ _ _ hw)
def wX6_saved_136 (t : Nat) (sh : List jH) (R : Nat → Nat → Option Nat) (a1 : Int32) (a2 : Int32) (Q : Int32 → (Nat → Nat → Int32) → Prop) (K82 : (Nat → Nat → Int32) → Int32 → Int32 → Int32 → Prop) : Nat → (Nat → Nat → Int32) → Int32 → Int32 → Int32 → Int32 → Int32 → Prop
  | 0, _, _, _, _, _, _ => False
  | f + 1, V, x3, x4, x5, x7, x8 =>
    ((x8 < 0 → (∀ y227 : Int32, y227 = x5 + (1 : Int32) → K82 V x3 x4 y227)) ∧ (¬ x8 < 0 → (∃ f9, wX6_saved_144 t sh R a1 a2 Q K82 (fun V x3 x4 x5 x7 x8 => wX6_saved_136 t sh R a1 a2 Q K82 f V x3 x4 x5 x7 x8) f9 V x3 x4 x5 x7 x8 (0 : Int32))))
theorem rX6_saved_136 {G : jG} {l : Launch} {d : Nat} {c n : Nat} (htr : l.stackTraces = false) (hdd : 73 ≤ d) {sh : List jH} {R : Nat → Nat → Option Nat} {t : Nat} (hT : jReg shX6 sh t) {a1 : Int32} {a2 : Int32} {Q : Int32 → (Nat → Nat → Int32) → Prop} {K82 : (Nat → Nat → Int32) → Int32 → Int32 → Int32 → Prop} (hK82 : ∀ (V : Nat → Nat → Int32) (x3 : Int32) (x4 : Int32) (x5 : Int32), K82 V x3 x4 x5 → J G l MX6_saved d c n 82 [(0, .ref t), (1, .int a1), (3, .int x3), (4, .int x4), (5, .int x5)] [] (mk sh V R) (jWr sh R Q) jNo) : ∀ (f : Nat) (V : Nat → Nat → Int32) (x3 : Int32) (x4 : Int32) (x5 : Int32) (x7 : Int32) (x8 : Int32), wX6_saved_136 t sh R a1 a2 Q K82 f V x3 x4 x5 x7 x8 → J G l MX6_saved d c n 136 [(0, .ref t), (1, .int a1), (3, .int x3), (4, .int x4), (5, .int x5), (7, .int x7), (8, .int x8)] [] (mk sh V R) (jWr sh R Q) jNo := by
  intro f
  induction f with
  | zero =>
    intro V x3 x4 x5 x7 x8 hw
    rw [wX6_saved_136] at hw
    exact hw.elim
  | succ f ih =>
    intro V x3 x4 x5 x7 x8 hw
    rw [wX6_saved_136] at hw
    refine J.iload 6 dX6_saved_136 rfl ?_
    refine J.if_lt 227 dX6_saved_138 (by decide) ⟨fun c138 => ?_, fun c138 => ?_⟩
    · obtain ⟨hw, -⟩ := hw
      specialize hw c138
      refine J.iincN 4 (K := (1 : Int32)) (lv' := fun y227 => [(5, .int y227), (0, .ref t), (1, .int a1), (3, .int x3), (4, .int x4), (7, .int x7), (8, .int x8)]) dX6_saved_227 rfl (by decide) (by decide) (fun _ => rfl) hw (fun y227 hw => ?_)
      refine J.goto 82 dX6_saved_230 (by decide) ?_
      exact J.pick [1, 2, 3, 4, 0] rfl (hK82 _ _ _ _ hw)
    · obtain ⟨-, hw⟩ := hw
      specialize hw c138
      refine J.iconst (v := (0 : Int32)) dX6_saved_141 (by decide) ?_
      refine J.istore (lv' := [(9, .int (0 : Int32)), (0, .ref t), (1, .int a1), (3, .int x3), (4, .int x4), (5, .int x5), (7, .int x7), (8, .int x8)]) dX6_saved_142 (by decide) rfl ?_
      obtain ⟨f9, hw⟩ := hw
      exact J.pick [1, 2, 3, 4, 5, 6, 7, 0] rfl (rX6_saved_144 htr hdd hT hK82 ih f9 _ _ _ _ _ _ _ hw)
def wX6_saved_82 (t : Nat) (sh : List jH) (R : Nat → Nat → Option Nat) (a1 : Int32) (a2 : Int32) (Q : Int32 → (Nat → Nat → Int32) → Prop) : Nat → (Nat → Nat → Int32) → Int32 → Int32 → Int32 → Prop
  | 0, _, _, _, _ => False
  | f + 1, V, x3, x4, x5 =>
    (((8 : Int32) ≤ x5 → (∃ f9, wX6_saved_239 t sh R a1 a2 Q f9 V (0 : Int32) (0 : Int32))) ∧ (¬ (8 : Int32) ≤ x5 → (wX6_isOf x3 x5 (fun r92 => ((¬ r92 = 0 → (wX6_bookedIn t V a1 x5 (fun r105 => (wX6_ofGuest t V r105 (1 : Int32) (fun r116 => (wX6_busyOf t V r105 (fun r123 => (∀ y129 : Int32, y129 = ((x4 &&& r116) &&& (r123 ^^^ (-1 : Int32))) → (∃ f9, wX6_saved_136 t sh R a1 a2 Q (fun V x3 x4 x5 => wX6_saved_82 t sh R a1 a2 Q f V x3 x4 x5) f9 V x3 x4 x5 y129 (255 : Int32)))))))))) ∧ (r92 = 0 → (∀ y227 : Int32, y227 = x5 + (1 : Int32) → wX6_saved_82 t sh R a1 a2 Q f V x3 x4 y227)))))))
theorem rX6_saved_82 {G : jG} {l : Launch} {d : Nat} {c n : Nat} (htr : l.stackTraces = false) (hdd : 73 ≤ d) {sh : List jH} {R : Nat → Nat → Option Nat} {t : Nat} (hT : jReg shX6 sh t) {a1 : Int32} {a2 : Int32} {Q : Int32 → (Nat → Nat → Int32) → Prop} : ∀ (f : Nat) (V : Nat → Nat → Int32) (x3 : Int32) (x4 : Int32) (x5 : Int32), wX6_saved_82 t sh R a1 a2 Q f V x3 x4 x5 → J G l MX6_saved d c n 82 [(0, .ref t), (1, .int a1), (3, .int x3), (4, .int x4), (5, .int x5)] [] (mk sh V R) (jWr sh R Q) jNo := by
  intro f
  induction f with
  | zero =>
    intro V x3 x4 x5 hw
    rw [wX6_saved_82] at hw
    exact hw.elim
  | succ f ih =>
    intro V x3 x4 x5 hw
    rw [wX6_saved_82] at hw
    refine J.iload 4 dX6_saved_82 rfl ?_
    refine J.bipush (v := (8 : Int32)) dX6_saved_84 (by decide) ?_
    refine J.icmp_ge 233 dX6_saved_86 (by decide) ⟨fun c86 => ?_, fun c86 => ?_⟩
    · obtain ⟨hw, -⟩ := hw
      specialize hw c86
      refine J.iconst (v := (0 : Int32)) dX6_saved_233 (by decide) ?_
      refine J.istore (lv' := [(5, .int (0 : Int32)), (0, .ref t), (1, .int a1), (3, .int x3), (4, .int x4)]) dX6_saved_234 (by decide) rfl ?_
      refine J.iconst (v := (0 : Int32)) dX6_saved_236 (by decide) ?_
      refine J.istore (lv' := [(6, .int (0 : Int32)), (5, .int (0 : Int32)), (0, .ref t), (1, .int a1), (3, .int x3), (4, .int x4)]) dX6_saved_237 (by decide) rfl ?_
      obtain ⟨f9, hw⟩ := hw
      exact J.pick [2, 1, 0] rfl (rX6_saved_239 htr hdd hT f9 _ _ _ hw)
    · obtain ⟨-, hw⟩ := hw
      specialize hw c86
      refine J.iload_n 2 dX6_saved_89 rfl ?_
      refine J.iload 4 dX6_saved_90 rfl ?_
      refine uX6_74 rfl htr dX6_saved_92 (by omega) (Nat.le_of_ble_eq_true rfl) hw ?_
      clear hw
      intro r92 hw
      refine J.if_ne 101 dX6_saved_95 (by decide) ⟨fun c95 => ?_, fun c95 => ?_⟩
      · obtain ⟨hw, -⟩ := hw
        specialize hw c95
        refine J.aload_n 0 dX6_saved_101 rfl ?_
        refine J.iload_n 1 dX6_saved_102 rfl ?_
        refine J.iload 4 dX6_saved_103 rfl ?_
        refine uX6_271 rfl htr hT dX6_saved_105 (by omega) (Nat.le_of_ble_eq_true rfl) hw ?_
        clear hw
        intro r105 hw
        refine J.istore (lv' := [(6, .int r105), (0, .ref t), (1, .int a1), (3, .int x3), (4, .int x4), (5, .int x5)]) dX6_saved_108 (by decide) rfl ?_
        refine J.iload 4 dX6_saved_110 rfl ?_
        refine J.aload_n 1 dX6_saved_112 rfl ?_
        refine J.iload 0 dX6_saved_113 rfl ?_
        refine J.iconst (v := (1 : Int32)) dX6_saved_115 (by decide) ?_
        refine uX6_71 rfl htr hT dX6_saved_116 (by omega) (Nat.le_of_ble_eq_true rfl) hw ?_
        clear hw
        intro r116 hw
        refine J.iand dX6_saved_119 ?_
        refine J.aload_n 1 dX6_saved_120 rfl ?_
        refine J.iload 0 dX6_saved_121 rfl ?_
        refine uX6_325 rfl htr hT dX6_saved_123 (by omega) (Nat.le_of_ble_eq_true rfl) hw ?_
        clear hw
        intro r123 hw
        refine J.iconst (v := (-1 : Int32)) dX6_saved_126 (by decide) ?_
        refine J.ixor dX6_saved_127 ?_
        refine J.iand dX6_saved_128 ?_
        refine J.nm hw (fun y129 hw => ?_)
        refine J.istore (lv' := [(7, .int y129), (6, .int r105), (0, .ref t), (1, .int a1), (3, .int x3), (4, .int x4), (5, .int x5)]) dX6_saved_129 (by decide) rfl ?_
        refine J.sipush (v := (255 : Int32)) dX6_saved_131 (by decide) ?_
        refine J.istore (lv' := [(8, .int (255 : Int32)), (7, .int y129), (6, .int r105), (0, .ref t), (1, .int a1), (3, .int x3), (4, .int x4), (5, .int x5)]) dX6_saved_134 (by decide) rfl ?_
        obtain ⟨f9, hw⟩ := hw
        exact J.pick [3, 4, 5, 6, 7, 1, 0] rfl (rX6_saved_136 htr hdd hT ih f9 _ _ _ _ _ _ hw)
      · obtain ⟨-, hw⟩ := hw
        specialize hw c95
        refine J.goto 227 dX6_saved_98 (by decide) ?_
        refine J.iincN 4 (K := (1 : Int32)) (lv' := fun y227 => [(5, .int y227), (0, .ref t), (1, .int a1), (3, .int x3), (4, .int x4)]) dX6_saved_227 rfl (by decide) (by decide) (fun _ => rfl) hw (fun y227 hw => ?_)
        refine J.goto 82 dX6_saved_230 (by decide) ?_
        exact J.pick [1, 2, 3, 4, 0] rfl (ih _ _ _ _ hw)
def wX6_saved_72 (t : Nat) (sh : List jH) (R : Nat → Nat → Option Nat) (a1 : Int32) (a2 : Int32) (Q : Int32 → (Nat → Nat → Int32) → Prop) (K48 : (Nat → Nat → Int32) → Int32 → Int32 → Int32 → Prop) (V : Nat → Nat → Int32) (x3 : Int32) (x4 : Int32) (x5 : Int32) (s1 : Int32) (s2 : Int32) : Prop :=
  (vp_in s1 256 ∧ (∀ y73 : Int32, y73 = x5 + (1 : Int32) → K48 (vset V (t + 10) s1.toNatClampNeg s2) x3 x4 y73))
theorem rX6_saved_72 {G : jG} {l : Launch} {d : Nat} {c n : Nat} (htr : l.stackTraces = false) (hdd : 73 ≤ d) {sh : List jH} {R : Nat → Nat → Option Nat} {t : Nat} (hT : jReg shX6 sh t) {a1 : Int32} {a2 : Int32} {Q : Int32 → (Nat → Nat → Int32) → Prop} {K48 : (Nat → Nat → Int32) → Int32 → Int32 → Int32 → Prop} (hK48 : ∀ (V : Nat → Nat → Int32) (x3 : Int32) (x4 : Int32) (x5 : Int32), K48 V x3 x4 x5 → J G l MX6_saved d c n 48 [(0, .ref t), (1, .int a1), (3, .int x3), (4, .int x4), (5, .int x5)] [] (mk sh V R) (jWr sh R Q) jNo) {V : Nat → Nat → Int32} {x3 : Int32} {x4 : Int32} {x5 : Int32} {s1 : Int32} {s2 : Int32} (hw : wX6_saved_72 t sh R a1 a2 Q K48 V x3 x4 x5 s1 s2) : J G l MX6_saved d c n 72 [(0, .ref t), (1, .int a1), (3, .int x3), (4, .int x4), (5, .int x5)] [.int s2, .int s1, .ref (t + 10)] (mk sh V R) (jWr sh R Q) jNo := by
  unfold wX6_saved_72 at hw
  obtain ⟨h72, hw⟩ := hw
  refine JV.iast dX6_saved_72 (hT.ge 10) (hT.at 10 rfl) h72 ?_
  refine J.iincN 4 (K := (1 : Int32)) (lv' := fun y73 => [(5, .int y73), (0, .ref t), (1, .int a1), (3, .int x3), (4, .int x4)]) dX6_saved_73 rfl (by decide) (by decide) (fun _ => rfl) hw (fun y73 hw => ?_)
  refine J.goto 48 dX6_saved_76 (by decide) ?_
  exact J.pick [1, 2, 3, 4, 0] rfl (hK48 _ _ _ _ hw)
def wX6_saved_48 (t : Nat) (sh : List jH) (R : Nat → Nat → Option Nat) (a1 : Int32) (a2 : Int32) (Q : Int32 → (Nat → Nat → Int32) → Prop) : Nat → (Nat → Nat → Int32) → Int32 → Int32 → Int32 → Prop
  | 0, _, _, _, _ => False
  | f + 1, V, x3, x4, x5 =>
    (((256 : Int32) ≤ x5 → (∃ f9, wX6_saved_82 t sh R a1 a2 Q f9 V x3 x4 (0 : Int32))) ∧ (¬ (256 : Int32) ≤ x5 → ((¬ x5 = 0 → wX6_saved_72 t sh R a1 a2 Q (fun V x3 x4 x5 => wX6_saved_48 t sh R a1 a2 Q f V x3 x4 x5) V x3 x4 x5 x5 (-1 : Int32)) ∧ (x5 = 0 → wX6_saved_72 t sh R a1 a2 Q (fun V x3 x4 x5 => wX6_saved_48 t sh R a1 a2 Q f V x3 x4 x5) V x3 x4 x5 x5 (0 : Int32)))))
theorem rX6_saved_48 {G : jG} {l : Launch} {d : Nat} {c n : Nat} (htr : l.stackTraces = false) (hdd : 73 ≤ d) {sh : List jH} {R : Nat → Nat → Option Nat} {t : Nat} (hT : jReg shX6 sh t) {a1 : Int32} {a2 : Int32} {Q : Int32 → (Nat → Nat → Int32) → Prop} : ∀ (f : Nat) (V : Nat → Nat → Int32) (x3 : Int32) (x4 : Int32) (x5 : Int32), wX6_saved_48 t sh R a1 a2 Q f V x3 x4 x5 → J G l MX6_saved d c n 48 [(0, .ref t), (1, .int a1), (3, .int x3), (4, .int x4), (5, .int x5)] [] (mk sh V R) (jWr sh R Q) jNo := by
  intro f
  induction f with
  | zero =>
    intro V x3 x4 x5 hw
    rw [wX6_saved_48] at hw
    exact hw.elim
  | succ f ih =>
    intro V x3 x4 x5 hw
    rw [wX6_saved_48] at hw
    refine J.iload 4 dX6_saved_48 rfl ?_
    refine J.sipush (v := (256 : Int32)) dX6_saved_50 (by decide) ?_
    refine J.icmp_ge 79 dX6_saved_53 (by decide) ⟨fun c53 => ?_, fun c53 => ?_⟩
    · obtain ⟨hw, -⟩ := hw
      specialize hw c53
      refine J.iconst (v := (0 : Int32)) dX6_saved_79 (by decide) ?_
      refine J.istore (lv' := [(5, .int (0 : Int32)), (0, .ref t), (1, .int a1), (3, .int x3), (4, .int x4)]) dX6_saved_80 (by decide) rfl ?_
      obtain ⟨f9, hw⟩ := hw
      exact J.pick [1, 2, 3, 4, 0] rfl (rX6_saved_82 htr hdd hT f9 _ _ _ _ hw)
    · obtain ⟨-, hw⟩ := hw
      specialize hw c53
      refine J.aload_n 0 dX6_saved_56 rfl ?_
      refine fgX6_41 rfl hT dX6_saved_57 ?_
      refine J.iload 4 dX6_saved_60 rfl ?_
      refine J.iload 4 dX6_saved_62 rfl ?_
      refine J.if_ne 71 dX6_saved_64 (by decide) ⟨fun c64 => ?_, fun c64 => ?_⟩
      · obtain ⟨hw, -⟩ := hw
        specialize hw c64
        refine J.iconst (v := (-1 : Int32)) dX6_saved_71 (by decide) ?_
        exact (rX6_saved_72 htr hdd hT ih hw)
      · obtain ⟨-, hw⟩ := hw
        specialize hw c64
        refine J.iconst (v := (0 : Int32)) dX6_saved_67 (by decide) ?_
        refine J.goto 72 dX6_saved_68 (by decide) ?_
        exact (rX6_saved_72 htr hdd hT ih hw)
def wX6_saved_14 (t : Nat) (sh : List jH) (R : Nat → Nat → Option Nat) (a1 : Int32) (a2 : Int32) (Q : Int32 → (Nat → Nat → Int32) → Prop) (V : Nat → Nat → Int32) (s1 : Int32) : Prop :=
  ((((vset V t 0 s1) t 0) ≤ 0 → (wX6_meetsIn t sh R (vset V t 0 s1) a1 (fun r28 V28 => (∀ y33 : Int32, y33 = (r28 &&& a2) → (wX6_freeOf t V28 a1 (fun r36 => (∀ y43 : Int32, y43 = (r36 &&& (a2 ^^^ (-1 : Int32))) → (∃ f9, wX6_saved_48 t sh R a1 a2 Q f9 V28 y33 y43 (0 : Int32))))))))) ∧ (¬ ((vset V t 0 s1) t 0) ≤ 0 → Q (0 : Int32) (vset V t 0 s1)))
theorem rX6_saved_14 {G : jG} {l : Launch} {d : Nat} {c n : Nat} (htr : l.stackTraces = false) (hdd : 73 ≤ d) {sh : List jH} {R : Nat → Nat → Option Nat} {t : Nat} (hT : jReg shX6 sh t) {a1 : Int32} {a2 : Int32} {Q : Int32 → (Nat → Nat → Int32) → Prop} {V : Nat → Nat → Int32} {s1 : Int32} (hw : wX6_saved_14 t sh R a1 a2 Q V s1) : J G l MX6_saved d c n 14 [(0, .ref t), (1, .int a1), (2, .int a2)] [.int s1, .ref t] (mk sh V R) (jWr sh R Q) jNo := by
  unfold wX6_saved_14 at hw
  refine fpX6_54 rfl hT dX6_saved_14 ?_
  refine J.aload_n 0 dX6_saved_17 rfl ?_
  refine fgX6_54 rfl hT dX6_saved_18 ?_
  refine J.if_le 26 dX6_saved_21 (by decide) ⟨fun c21 => ?_, fun c21 => ?_⟩
  · obtain ⟨hw, -⟩ := hw
    specialize hw c21
    refine J.aload_n 0 dX6_saved_26 rfl ?_
    refine J.iload_n 1 dX6_saved_27 rfl ?_
    refine uX6_406 rfl htr hT dX6_saved_28 (by omega) (Nat.le_of_ble_eq_true rfl) hw ?_
    clear hw
    intro r28 V28 hw
    refine J.iload_n 2 dX6_saved_31 rfl ?_
    refine J.iand dX6_saved_32 ?_
    refine J.nm hw (fun y33 hw => ?_)
    refine J.istore_n (lv' := [(3, .int y33), (0, .ref t), (1, .int a1), (2, .int a2)]) dX6_saved_33 (by decide) rfl ?_
    refine J.aload_n 1 dX6_saved_34 rfl ?_
    refine J.iload_n 2 dX6_saved_35 rfl ?_
    refine uX6_313 rfl htr hT dX6_saved_36 (by omega) (Nat.le_of_ble_eq_true rfl) hw ?_
    clear hw
    intro r36 hw
    refine J.iload_n 3 dX6_saved_39 rfl ?_
    refine J.iconst (v := (-1 : Int32)) dX6_saved_40 (by decide) ?_
    refine J.ixor dX6_saved_41 ?_
    refine J.iand dX6_saved_42 ?_
    refine J.nm hw (fun y43 hw => ?_)
    refine J.istore (lv' := [(4, .int y43), (3, .int y33), (0, .ref t), (1, .int a1), (2, .int a2)]) dX6_saved_43 (by decide) rfl ?_
    refine J.iconst (v := (0 : Int32)) dX6_saved_45 (by decide) ?_
    refine J.istore (lv' := [(5, .int (0 : Int32)), (4, .int y43), (3, .int y33), (0, .ref t), (1, .int a1), (2, .int a2)]) dX6_saved_46 (by decide) rfl ?_
    obtain ⟨f9, hw⟩ := hw
    exact J.pick [3, 4, 2, 1, 0] rfl (rX6_saved_48 htr hdd hT f9 _ _ _ _ hw)
  · obtain ⟨-, hw⟩ := hw
    specialize hw c21
    refine J.iconst (v := (0 : Int32)) dX6_saved_24 (by decide) ?_
    exact J.iret rfl dX6_saved_25 ⟨_, rfl, _, rfl, hw⟩
def wX6_saved (t : Nat) (sh : List jH) (R : Nat → Nat → Option Nat) (V : Nat → Nat → Int32) (a1 : Int32) (a2 : Int32) (Q : Int32 → (Nat → Nat → Int32) → Prop) : Prop :=
  (wX6_isHost t V a1 (fun r3 => ((¬ r3 = 0 → wX6_saved_14 t sh R a1 a2 Q V (0 : Int32)) ∧ (r3 = 0 → wX6_saved_14 t sh R a1 a2 Q V (1 : Int32)))))
theorem mX6_saved {G : jG} {l : Launch} {d : Nat} (htr : l.stackTraces = false) (hdd : 73 ≤ d) {sh : List jH} {R : Nat → Nat → Option Nat} {V : Nat → Nat → Int32} {t : Nat} (hT : jReg shX6 sh t) {a1 : Int32} {a2 : Int32} {Q : Int32 → (Nat → Nat → Int32) → Prop} (hw : wX6_saved t sh R V a1 a2 Q) : JM G l MX6_saved d 0 0 [.ref t, .int a1, .int a2] (mk sh V R) (jWr sh R Q) jNo := by
  refine JM.intro (by decide) rfl htr (Nat.le_of_ble_eq_true rfl) ?_
  show J G l MX6_saved d 0 0 0 [(0, .ref t), (1, .int a1), (2, .int a2)] [] (mk sh V R) _ _
  unfold wX6_saved at hw
  refine J.aload_n 0 dX6_saved_0 rfl ?_
  refine J.aload_n 0 dX6_saved_1 rfl ?_
  refine J.iload_n 1 dX6_saved_2 rfl ?_
  refine uX6_310 rfl htr hT dX6_saved_3 (by omega) (Nat.le_of_ble_eq_true rfl) hw ?_
  clear hw
  intro r3 hw
  refine J.if_ne 13 dX6_saved_6 (by decide) ⟨fun c6 => ?_, fun c6 => ?_⟩
  · obtain ⟨hw, -⟩ := hw
    specialize hw c6
    refine J.iconst (v := (0 : Int32)) dX6_saved_13 (by decide) ?_
    exact (rX6_saved_14 htr hdd hT hw)
  · obtain ⟨-, hw⟩ := hw
    specialize hw c6
    refine J.iconst (v := (1 : Int32)) dX6_saved_9 (by decide) ?_
    refine J.goto 14 dX6_saved_10 (by decide) ?_
    exact (rX6_saved_14 htr hdd hT hw)
theorem fgX6_294 {G : jG} {l : Launch} {M : jM} {d c n pc : Nat} {lv : List (Nat × Value)} {st : List Value} {sh : List jH} {V : Nat → Nat → Int32} {R : Nat → Nat → Option Nat} {post : Option Value → List jC → Prop} {xp : String → List jC → Prop} {t : Nat} (hM : M.1.cls = RX6) (hT : jReg shX6 sh t) (hd : decode M.2.1 pc = .ok (.getfield 294, 3)) (kk : J G l M d c n (pc + 3) lv (.int (V t 20) :: st) (mk sh V R) post xp) : J G l M d c n pc lv (.ref t :: st) (mk sh V R) post xp := JV.getf (C := RX6) (T0 := TX6) (N := 28) 20 hd hT.1 (hT.at 0 rfl) rfl in_X6 (by decide) (by rw [hM]; exact q2148) rfl rfl kk
abbrev MX6_settle : jM := (yX6_settle, cX6_settle, 5, some .int, [])
-- VisitingHoursModel.settle(I)I
def wX6_settle_72 (t : Nat) (sh : List jH) (R : Nat → Nat → Option Nat) (a1 : Int32) (Q : Int32 → (Nat → Nat → Int32) → Prop) (V : Nat → Nat → Int32) (x2 : Int32) : Prop :=
  (wX6_comesBack t V (fun V73 => Q x2 V73))
theorem rX6_settle_72 {G : jG} {l : Launch} {d : Nat} {c n : Nat} (htr : l.stackTraces = false) (hdd : 74 ≤ d) {sh : List jH} {R : Nat → Nat → Option Nat} {t : Nat} (hT : jReg shX6 sh t) {a1 : Int32} {Q : Int32 → (Nat → Nat → Int32) → Prop} {V : Nat → Nat → Int32} {x2 : Int32} (hw : wX6_settle_72 t sh R a1 Q V x2) : J G l MX6_settle d c n 72 [(0, .ref t), (2, .int x2)] [] (mk sh V R) (jWr sh R Q) jNo := by
  unfold wX6_settle_72 at hw
  refine J.aload_n 0 dX6_settle_72 rfl ?_
  refine uX6_202 rfl htr hT dX6_settle_73 (by omega) (Nat.le_of_ble_eq_true rfl) hw ?_
  clear hw
  intro V73 hw
  refine J.iload_n 1 dX6_settle_76 rfl ?_
  exact J.iret rfl dX6_settle_77 ⟨_, rfl, _, rfl, hw⟩
def wX6_settle_34 (t : Nat) (sh : List jH) (R : Nat → Nat → Option Nat) (a1 : Int32) (Q : Int32 → (Nat → Nat → Int32) → Prop) : Nat → (Nat → Nat → Int32) → Int32 → Int32 → Prop
  | 0, _, _, _ => False
  | f + 1, V, x2, x3 =>
    (((60 : Int32) < x3 → wX6_settle_72 t sh R a1 Q V x2) ∧ (¬ (60 : Int32) < x3 → ((¬ x2 = (-1 : Int32) → wX6_settle_72 t sh R a1 Q V x2) ∧ (x2 = (-1 : Int32) → (wX6_goes t sh R V (1 : Int32) (0 : Int32) (fun r48 V48 => (wX6_isOf (V48 t 20) a1 (fun r58 => ((r58 = 0 → (∀ y66 : Int32, y66 = x3 + (1 : Int32) → wX6_settle_34 t sh R a1 Q f V48 x2 y66)) ∧ (¬ r58 = 0 → (∀ y66 : Int32, y66 = x3 + (1 : Int32) → wX6_settle_34 t sh R a1 Q f V48 x3 y66)))))))))))
theorem rX6_settle_34 {G : jG} {l : Launch} {d : Nat} {c n : Nat} (htr : l.stackTraces = false) (hdd : 74 ≤ d) {sh : List jH} {R : Nat → Nat → Option Nat} {t : Nat} (hT : jReg shX6 sh t) {a1 : Int32} {Q : Int32 → (Nat → Nat → Int32) → Prop} : ∀ (f : Nat) (V : Nat → Nat → Int32) (x2 : Int32) (x3 : Int32), wX6_settle_34 t sh R a1 Q f V x2 x3 → J G l MX6_settle d c n 34 [(0, .ref t), (1, .int a1), (2, .int x2), (3, .int x3)] [] (mk sh V R) (jWr sh R Q) jNo := by
  intro f
  induction f with
  | zero =>
    intro V x2 x3 hw
    rw [wX6_settle_34] at hw
    exact hw.elim
  | succ f ih =>
    intro V x2 x3 hw
    rw [wX6_settle_34] at hw
    refine J.iload_n 3 dX6_settle_34 rfl ?_
    refine J.bipush (v := (60 : Int32)) dX6_settle_35 (by decide) ?_
    refine J.icmp_gt 72 dX6_settle_37 (by decide) ⟨fun c37 => ?_, fun c37 => ?_⟩
    · obtain ⟨hw, -⟩ := hw
      specialize hw c37
      exact J.pick [0, 2] rfl (rX6_settle_72 htr hdd hT hw)
    · obtain ⟨-, hw⟩ := hw
      specialize hw c37
      refine J.iload_n 2 dX6_settle_40 rfl ?_
      refine J.iconst (v := (-1 : Int32)) dX6_settle_41 (by decide) ?_
      refine J.icmp_ne 72 dX6_settle_42 (by decide) ⟨fun c42 => ?_, fun c42 => ?_⟩
      · obtain ⟨hw, -⟩ := hw
        specialize hw c42
        exact J.pick [0, 2] rfl (rX6_settle_72 htr hdd hT hw)
      · obtain ⟨-, hw⟩ := hw
        specialize hw c42
        refine J.aload_n 0 dX6_settle_45 rfl ?_
        refine J.iconst (v := (1 : Int32)) dX6_settle_46 (by decide) ?_
        refine J.iconst (v := (0 : Int32)) dX6_settle_47 (by decide) ?_
        refine uX6_347 rfl htr hT dX6_settle_48 (by omega) (Nat.le_of_ble_eq_true rfl) hw ?_
        clear hw
        intro r48 V48 hw
        refine J.istore (lv' := [(4, .int r48), (0, .ref t), (1, .int a1), (2, .int x2), (3, .int x3)]) dX6_settle_51 (by decide) rfl ?_
        refine J.aload_n 1 dX6_settle_53 rfl ?_
        refine fgX6_294 rfl hT dX6_settle_54 ?_
        refine J.iload_n 2 dX6_settle_57 rfl ?_
        refine uX6_74 rfl htr dX6_settle_58 (by omega) (Nat.le_of_ble_eq_true rfl) hw ?_
        clear hw
        intro r58 hw
        refine J.if_eq 66 dX6_settle_61 (by decide) ⟨fun c61 => ?_, fun c61 => ?_⟩
        · obtain ⟨hw, -⟩ := hw
          specialize hw c61
          refine J.iincN 4 (K := (1 : Int32)) (lv' := fun y66 => [(3, .int y66), (4, .int r48), (0, .ref t), (1, .int a1), (2, .int x2)]) dX6_settle_66 rfl (by decide) (by decide) (fun _ => rfl) hw (fun y66 hw => ?_)
          refine J.goto 34 dX6_settle_69 (by decide) ?_
          exact J.pick [2, 3, 4, 0] rfl (ih _ _ _ hw)
        · obtain ⟨-, hw⟩ := hw
          specialize hw c61
          refine J.iload_n 4 dX6_settle_64 rfl ?_
          refine J.istore_n (lv' := [(2, .int x3), (4, .int r48), (0, .ref t), (1, .int a1), (3, .int x3)]) dX6_settle_65 (by decide) rfl ?_
          refine J.iincN 4 (K := (1 : Int32)) (lv' := fun y66 => [(3, .int y66), (2, .int x3), (4, .int r48), (0, .ref t), (1, .int a1)]) dX6_settle_66 rfl (by decide) (by decide) (fun _ => rfl) hw (fun y66 hw => ?_)
          refine J.goto 34 dX6_settle_69 (by decide) ?_
          exact J.pick [3, 4, 1, 0] rfl (ih _ _ _ hw)
def wX6_settle_14 (t : Nat) (sh : List jH) (R : Nat → Nat → Option Nat) (a1 : Int32) (Q : Int32 → (Nat → Nat → Int32) → Prop) (V : Nat → Nat → Int32) (s1 : Int32) : Prop :=
  ((((vset V t 0 s1) t 0) ≤ 0 → (wX6_putsAside t (vset V t 0 s1) (fun V27 => (∃ f9, wX6_settle_34 t sh R a1 Q f9 V27 (-1 : Int32) (1 : Int32))))) ∧ (¬ ((vset V t 0 s1) t 0) ≤ 0 → Q (0 : Int32) (vset V t 0 s1)))
theorem rX6_settle_14 {G : jG} {l : Launch} {d : Nat} {c n : Nat} (htr : l.stackTraces = false) (hdd : 74 ≤ d) {sh : List jH} {R : Nat → Nat → Option Nat} {t : Nat} (hT : jReg shX6 sh t) {a1 : Int32} {Q : Int32 → (Nat → Nat → Int32) → Prop} {V : Nat → Nat → Int32} {s1 : Int32} (hw : wX6_settle_14 t sh R a1 Q V s1) : J G l MX6_settle d c n 14 [(0, .ref t), (1, .int a1)] [.int s1, .ref t] (mk sh V R) (jWr sh R Q) jNo := by
  unfold wX6_settle_14 at hw
  refine fpX6_54 rfl hT dX6_settle_14 ?_
  refine J.aload_n 0 dX6_settle_17 rfl ?_
  refine fgX6_54 rfl hT dX6_settle_18 ?_
  refine J.if_le 26 dX6_settle_21 (by decide) ⟨fun c21 => ?_, fun c21 => ?_⟩
  · obtain ⟨hw, -⟩ := hw
    specialize hw c21
    refine J.aload_n 0 dX6_settle_26 rfl ?_
    refine uX6_192 rfl htr hT dX6_settle_27 (by omega) (Nat.le_of_ble_eq_true rfl) hw ?_
    clear hw
    intro V27 hw
    refine J.iconst (v := (-1 : Int32)) dX6_settle_30 (by decide) ?_
    refine J.istore_n (lv' := [(2, .int (-1 : Int32)), (0, .ref t), (1, .int a1)]) dX6_settle_31 (by decide) rfl ?_
    refine J.iconst (v := (1 : Int32)) dX6_settle_32 (by decide) ?_
    refine J.istore_n (lv' := [(3, .int (1 : Int32)), (2, .int (-1 : Int32)), (0, .ref t), (1, .int a1)]) dX6_settle_33 (by decide) rfl ?_
    obtain ⟨f9, hw⟩ := hw
    exact J.pick [2, 3, 1, 0] rfl (rX6_settle_34 htr hdd hT f9 _ _ _ hw)
  · obtain ⟨-, hw⟩ := hw
    specialize hw c21
    refine J.iconst (v := (0 : Int32)) dX6_settle_24 (by decide) ?_
    exact J.iret rfl dX6_settle_25 ⟨_, rfl, _, rfl, hw⟩
def wX6_settle (t : Nat) (sh : List jH) (R : Nat → Nat → Option Nat) (V : Nat → Nat → Int32) (a1 : Int32) (Q : Int32 → (Nat → Nat → Int32) → Prop) : Prop :=
  (wX6_isHost t V a1 (fun r3 => ((¬ r3 = 0 → wX6_settle_14 t sh R a1 Q V (0 : Int32)) ∧ (r3 = 0 → wX6_settle_14 t sh R a1 Q V (1 : Int32)))))
theorem mX6_settle {G : jG} {l : Launch} {d : Nat} (htr : l.stackTraces = false) (hdd : 74 ≤ d) {sh : List jH} {R : Nat → Nat → Option Nat} {V : Nat → Nat → Int32} {t : Nat} (hT : jReg shX6 sh t) {a1 : Int32} {Q : Int32 → (Nat → Nat → Int32) → Prop} (hw : wX6_settle t sh R V a1 Q) : JM G l MX6_settle d 0 0 [.ref t, .int a1] (mk sh V R) (jWr sh R Q) jNo := by
  refine JM.intro (by decide) rfl htr (Nat.le_of_ble_eq_true rfl) ?_
  show J G l MX6_settle d 0 0 0 [(0, .ref t), (1, .int a1)] [] (mk sh V R) _ _
  unfold wX6_settle at hw
  refine J.aload_n 0 dX6_settle_0 rfl ?_
  refine J.aload_n 0 dX6_settle_1 rfl ?_
  refine J.iload_n 1 dX6_settle_2 rfl ?_
  refine uX6_310 rfl htr hT dX6_settle_3 (by omega) (Nat.le_of_ble_eq_true rfl) hw ?_
  clear hw
  intro r3 hw
  refine J.if_ne 13 dX6_settle_6 (by decide) ⟨fun c6 => ?_, fun c6 => ?_⟩
  · obtain ⟨hw, -⟩ := hw
    specialize hw c6
    refine J.iconst (v := (0 : Int32)) dX6_settle_13 (by decide) ?_
    exact (rX6_settle_14 htr hdd hT hw)
  · obtain ⟨-, hw⟩ := hw
    specialize hw c6
    refine J.iconst (v := (1 : Int32)) dX6_settle_9 (by decide) ?_
    refine J.goto 14 dX6_settle_10 (by decide) ?_
    exact (rX6_settle_14 htr hdd hT hw)
abbrev MX6_gladder : jM := (yX6_gladder, cX6_gladder, 5, some .int, [])
theorem uX6_319 {G : jG} {l : Launch} {M : jM} {d c n pc : Nat} {lv : List (Nat × Value)} {rest : List Value} {post : Option Value → List jC → Prop} {xp : String → List jC → Prop} (hM : M.1.cls = RX6) (htr : l.stackTraces = false) {sh : List jH} {V : Nat → Nat → Int32} {R : Nat → Nat → Option Nat} {t : Nat} (hT : jReg shX6 sh t) {Q : Int32 → Prop} (hd : decode M.2.1 pc = .ok (.invokevirtual 319, 3)) (hdd : 1 + 1 ≤ d) (hw8 : (rest.map fun v => v.category).sum ≤ 8) (hw : wX6_gladness t V Q) (kk : ∀ r, Q r → J G l M d c n (pc + 3) lv (.int r :: rest) (mk sh V R) post xp) : J G l M d c n pc lv (.ref t :: rest) (mk sh V R) post xp := by
  exact J.callV (As := []) (hcw := by rw [hM]; exact lw_V q2407 q2409 qs101 q152 q2410) (mX6_gladness htr hT hw) hd rfl ⟨5, _, _, mk_at (hT.at 0 rfl), rfl, rfl, fun _ => rfl⟩ ⟨rfl, by decide, by decide, by show _ = some 0; decide +kernel⟩ hw8 ⟨hdd, by decide⟩ jcc0 (fun r9 g9 h9 => by obtain ⟨rfl, r, rfl, h⟩ := h9; exact kk r h) jNo.x
-- VisitingHoursModel.gladder(I)I
def wX6_gladder_16 (t : Nat) (sh : List jH) (R : Nat → Nat → Option Nat) (a1 : Int32) (Q : Int32 → (Nat → Nat → Int32) → Prop) (V : Nat → Nat → Int32) (s1 : Int32) : Prop :=
  ((((vset V t 0 s1) t 0) ≤ 0 → (wX6_gladness t (vset V t 0 s1) (fun r29 => (wX6_putsAside t (vset V t 0 s1) (fun V34 => (wX6_goes t sh R V34 a1 (0 : Int32) (fun r40 V40 => (wX6_gladness t V40 (fun r45 => (wX6_comesBack t V40 (fun V51 => Q (r45 - r29) V51))))))))))) ∧ (¬ ((vset V t 0 s1) t 0) ≤ 0 → Q (0 : Int32) (vset V t 0 s1)))
theorem rX6_gladder_16 {G : jG} {l : Launch} {d : Nat} {c n : Nat} (htr : l.stackTraces = false) (hdd : 74 ≤ d) {sh : List jH} {R : Nat → Nat → Option Nat} {t : Nat} (hT : jReg shX6 sh t) {a1 : Int32} {Q : Int32 → (Nat → Nat → Int32) → Prop} {V : Nat → Nat → Int32} {s1 : Int32} (hw : wX6_gladder_16 t sh R a1 Q V s1) : J G l MX6_gladder d c n 16 [(0, .ref t), (1, .int a1)] [.int s1, .ref t] (mk sh V R) (jWr sh R Q) jNo := by
  unfold wX6_gladder_16 at hw
  refine fpX6_54 rfl hT dX6_gladder_16 ?_
  refine J.aload_n 0 dX6_gladder_19 rfl ?_
  refine fgX6_54 rfl hT dX6_gladder_20 ?_
  refine J.if_le 28 dX6_gladder_23 (by decide) ⟨fun c23 => ?_, fun c23 => ?_⟩
  · obtain ⟨hw, -⟩ := hw
    specialize hw c23
    refine J.aload_n 0 dX6_gladder_28 rfl ?_
    refine uX6_319 rfl htr hT dX6_gladder_29 (by omega) (Nat.le_of_ble_eq_true rfl) hw ?_
    clear hw
    intro r29 hw
    refine J.istore_n (lv' := [(2, .int r29), (0, .ref t), (1, .int a1)]) dX6_gladder_32 (by decide) rfl ?_
    refine J.aload_n 1 dX6_gladder_33 rfl ?_
    refine uX6_192 rfl htr hT dX6_gladder_34 (by omega) (Nat.le_of_ble_eq_true rfl) hw ?_
    clear hw
    intro V34 hw
    refine J.aload_n 1 dX6_gladder_37 rfl ?_
    refine J.iload_n 2 dX6_gladder_38 rfl ?_
    refine J.iconst (v := (0 : Int32)) dX6_gladder_39 (by decide) ?_
    refine uX6_347 rfl htr hT dX6_gladder_40 (by omega) (Nat.le_of_ble_eq_true rfl) hw ?_
    clear hw
    intro r40 V40 hw
    refine J.istore_n (lv' := [(3, .int r40), (2, .int r29), (0, .ref t), (1, .int a1)]) dX6_gladder_43 (by decide) rfl ?_
    refine J.aload_n 2 dX6_gladder_44 rfl ?_
    refine uX6_319 rfl htr hT dX6_gladder_45 (by omega) (Nat.le_of_ble_eq_true rfl) hw ?_
    clear hw
    intro r45 hw
    refine J.istore (lv' := [(4, .int r45), (3, .int r40), (2, .int r29), (0, .ref t), (1, .int a1)]) dX6_gladder_48 (by decide) rfl ?_
    refine J.aload_n 3 dX6_gladder_50 rfl ?_
    refine uX6_202 rfl htr hT dX6_gladder_51 (by omega) (Nat.le_of_ble_eq_true rfl) hw ?_
    clear hw
    intro V51 hw
    refine J.iload 0 dX6_gladder_54 rfl ?_
    refine J.iload_n 2 dX6_gladder_56 rfl ?_
    refine J.isub dX6_gladder_57 ?_
    exact J.iret rfl dX6_gladder_58 ⟨_, rfl, _, rfl, hw⟩
  · obtain ⟨-, hw⟩ := hw
    specialize hw c23
    refine J.iconst (v := (0 : Int32)) dX6_gladder_26 (by decide) ?_
    exact J.iret rfl dX6_gladder_27 ⟨_, rfl, _, rfl, hw⟩
def wX6_gladder (t : Nat) (sh : List jH) (R : Nat → Nat → Option Nat) (V : Nat → Nat → Int32) (a1 : Int32) (Q : Int32 → (Nat → Nat → Int32) → Prop) : Prop :=
  (wX6_isIn a1 (0 : Int32) (60 : Int32) (fun r5 => ((¬ r5 = 0 → wX6_gladder_16 t sh R a1 Q V (0 : Int32)) ∧ (r5 = 0 → wX6_gladder_16 t sh R a1 Q V (1 : Int32)))))
theorem mX6_gladder {G : jG} {l : Launch} {d : Nat} (htr : l.stackTraces = false) (hdd : 74 ≤ d) {sh : List jH} {R : Nat → Nat → Option Nat} {V : Nat → Nat → Int32} {t : Nat} (hT : jReg shX6 sh t) {a1 : Int32} {Q : Int32 → (Nat → Nat → Int32) → Prop} (hw : wX6_gladder t sh R V a1 Q) : JM G l MX6_gladder d 0 0 [.ref t, .int a1] (mk sh V R) (jWr sh R Q) jNo := by
  refine JM.intro (by decide) rfl htr (Nat.le_of_ble_eq_true rfl) ?_
  show J G l MX6_gladder d 0 0 0 [(0, .ref t), (1, .int a1)] [] (mk sh V R) _ _
  unfold wX6_gladder at hw
  refine J.aload_n 0 dX6_gladder_0 rfl ?_
  refine J.iload_n 1 dX6_gladder_1 rfl ?_
  refine J.iconst (v := (0 : Int32)) dX6_gladder_2 (by decide) ?_
  refine J.bipush (v := (60 : Int32)) dX6_gladder_3 (by decide) ?_
  refine uX6_57 rfl htr dX6_gladder_5 (by omega) (Nat.le_of_ble_eq_true rfl) hw ?_
  clear hw
  intro r5 hw
  refine J.if_ne 15 dX6_gladder_8 (by decide) ⟨fun c8 => ?_, fun c8 => ?_⟩
  · obtain ⟨hw, -⟩ := hw
    specialize hw c8
    refine J.iconst (v := (0 : Int32)) dX6_gladder_15 (by decide) ?_
    exact (rX6_gladder_16 htr hdd hT hw)
  · obtain ⟨-, hw⟩ := hw
    specialize hw c8
    refine J.iconst (v := (1 : Int32)) dX6_gladder_11 (by decide) ?_
    refine J.goto 16 dX6_gladder_12 (by decide) ?_
    exact (rX6_gladder_16 htr hdd hT hw)
abbrev MX6_ahead : jM := (yX6_ahead, cX6_ahead, 6, some .int, [])
-- VisitingHoursModel.ahead(III)I
def wX6_ahead_41 (t : Nat) (sh : List jH) (R : Nat → Nat → Option Nat) (a1 : Int32) (a2 : Int32) (a3 : Int32) (Q : Int32 → (Nat → Nat → Int32) → Prop) (V : Nat → Nat → Int32) (s1 : Int32) : Prop :=
  ((((vset V t 0 s1) t 0) ≤ 0 → (wX6_putsAside t (vset V t 0 s1) (fun V54 => (wX6_goes t sh R V54 a2 (0 : Int32) (fun r60 V60 => (wX6_of t V60 a1 ((2 : Int32) + a3) (fun r70 => (wX6_comesBack t V60 (fun V76 => Q r70 V76))))))))) ∧ (¬ ((vset V t 0 s1) t 0) ≤ 0 → Q (0 : Int32) (vset V t 0 s1)))
theorem rX6_ahead_41 {G : jG} {l : Launch} {d : Nat} {c n : Nat} (htr : l.stackTraces = false) (hdd : 74 ≤ d) {sh : List jH} {R : Nat → Nat → Option Nat} {t : Nat} (hT : jReg shX6 sh t) {a1 : Int32} {a2 : Int32} {a3 : Int32} {Q : Int32 → (Nat → Nat → Int32) → Prop} {V : Nat → Nat → Int32} {s1 : Int32} (hw : wX6_ahead_41 t sh R a1 a2 a3 Q V s1) : J G l MX6_ahead d c n 41 [(0, .ref t), (1, .int a1), (2, .int a2), (3, .int a3)] [.int s1, .ref t] (mk sh V R) (jWr sh R Q) jNo := by
  unfold wX6_ahead_41 at hw
  refine fpX6_54 rfl hT dX6_ahead_41 ?_
  refine J.aload_n 0 dX6_ahead_44 rfl ?_
  refine fgX6_54 rfl hT dX6_ahead_45 ?_
  refine J.if_le 53 dX6_ahead_48 (by decide) ⟨fun c48 => ?_, fun c48 => ?_⟩
  · obtain ⟨hw, -⟩ := hw
    specialize hw c48
    refine J.aload_n 0 dX6_ahead_53 rfl ?_
    refine uX6_192 rfl htr hT dX6_ahead_54 (by omega) (Nat.le_of_ble_eq_true rfl) hw ?_
    clear hw
    intro V54 hw
    refine J.aload_n 0 dX6_ahead_57 rfl ?_
    refine J.iload_n 2 dX6_ahead_58 rfl ?_
    refine J.iconst (v := (0 : Int32)) dX6_ahead_59 (by decide) ?_
    refine uX6_347 rfl htr hT dX6_ahead_60 (by omega) (Nat.le_of_ble_eq_true rfl) hw ?_
    clear hw
    intro r60 V60 hw
    refine J.istore (lv' := [(4, .int r60), (0, .ref t), (1, .int a1), (2, .int a2), (3, .int a3)]) dX6_ahead_63 (by decide) rfl ?_
    refine J.aload_n 1 dX6_ahead_65 rfl ?_
    refine J.iload_n 2 dX6_ahead_66 rfl ?_
    refine J.iconst (v := (2 : Int32)) dX6_ahead_67 (by decide) ?_
    refine J.iload_n 4 dX6_ahead_68 rfl ?_
    refine J.iadd dX6_ahead_69 ?_
    refine uX6_68 rfl htr hT dX6_ahead_70 (by omega) (Nat.le_of_ble_eq_true rfl) hw ?_
    clear hw
    intro r70 hw
    refine J.istore (lv' := [(5, .int r70), (4, .int r60), (0, .ref t), (1, .int a1), (2, .int a2), (3, .int a3)]) dX6_ahead_73 (by decide) rfl ?_
    refine J.aload_n 2 dX6_ahead_75 rfl ?_
    refine uX6_202 rfl htr hT dX6_ahead_76 (by omega) (Nat.le_of_ble_eq_true rfl) hw ?_
    clear hw
    intro V76 hw
    refine J.iload 0 dX6_ahead_79 rfl ?_
    exact J.iret rfl dX6_ahead_81 ⟨_, rfl, _, rfl, hw⟩
  · obtain ⟨-, hw⟩ := hw
    specialize hw c48
    refine J.iconst (v := (0 : Int32)) dX6_ahead_51 (by decide) ?_
    exact J.iret rfl dX6_ahead_52 ⟨_, rfl, _, rfl, hw⟩
def wX6_ahead (t : Nat) (sh : List jH) (R : Nat → Nat → Option Nat) (V : Nat → Nat → Int32) (a1 : Int32) (a2 : Int32) (a3 : Int32) (Q : Int32 → (Nat → Nat → Int32) → Prop) : Prop :=
  (wX6_isHost t V a1 (fun r3 => ((¬ r3 = 0 → (wX6_isIn a2 (0 : Int32) (60 : Int32) (fun r17 => ((¬ r17 = 0 → (wX6_isIn a3 (0 : Int32) (1 : Int32) (fun r30 => ((¬ r30 = 0 → wX6_ahead_41 t sh R a1 a2 a3 Q V (0 : Int32)) ∧ (r30 = 0 → wX6_ahead_41 t sh R a1 a2 a3 Q V (3 : Int32)))))) ∧ (r17 = 0 → wX6_ahead_41 t sh R a1 a2 a3 Q V (2 : Int32)))))) ∧ (r3 = 0 → wX6_ahead_41 t sh R a1 a2 a3 Q V (1 : Int32)))))
theorem mX6_ahead {G : jG} {l : Launch} {d : Nat} (htr : l.stackTraces = false) (hdd : 74 ≤ d) {sh : List jH} {R : Nat → Nat → Option Nat} {V : Nat → Nat → Int32} {t : Nat} (hT : jReg shX6 sh t) {a1 : Int32} {a2 : Int32} {a3 : Int32} {Q : Int32 → (Nat → Nat → Int32) → Prop} (hw : wX6_ahead t sh R V a1 a2 a3 Q) : JM G l MX6_ahead d 0 0 [.ref t, .int a1, .int a2, .int a3] (mk sh V R) (jWr sh R Q) jNo := by
  refine JM.intro (by decide) rfl htr (Nat.le_of_ble_eq_true rfl) ?_
  show J G l MX6_ahead d 0 0 0 [(0, .ref t), (1, .int a1), (2, .int a2), (3, .int a3)] [] (mk sh V R) _ _
  unfold wX6_ahead at hw
  refine J.aload_n 0 dX6_ahead_0 rfl ?_
  refine J.aload_n 0 dX6_ahead_1 rfl ?_
  refine J.iload_n 1 dX6_ahead_2 rfl ?_
  refine uX6_310 rfl htr hT dX6_ahead_3 (by omega) (Nat.le_of_ble_eq_true rfl) hw ?_
  clear hw
  intro r3 hw
  refine J.if_ne 13 dX6_ahead_6 (by decide) ⟨fun c6 => ?_, fun c6 => ?_⟩
  · obtain ⟨hw, -⟩ := hw
    specialize hw c6
    refine J.iload_n 2 dX6_ahead_13 rfl ?_
    refine J.iconst (v := (0 : Int32)) dX6_ahead_14 (by decide) ?_
    refine J.bipush (v := (60 : Int32)) dX6_ahead_15 (by decide) ?_
    refine uX6_57 rfl htr dX6_ahead_17 (by omega) (Nat.le_of_ble_eq_true rfl) hw ?_
    clear hw
    intro r17 hw
    refine J.if_ne 27 dX6_ahead_20 (by decide) ⟨fun c20 => ?_, fun c20 => ?_⟩
    · obtain ⟨hw, -⟩ := hw
      specialize hw c20
      refine J.iload_n 3 dX6_ahead_27 rfl ?_
      refine J.iconst (v := (0 : Int32)) dX6_ahead_28 (by decide) ?_
      refine J.iconst (v := (1 : Int32)) dX6_ahead_29 (by decide) ?_
      refine uX6_57 rfl htr dX6_ahead_30 (by omega) (Nat.le_of_ble_eq_true rfl) hw ?_
      clear hw
      intro r30 hw
      refine J.if_ne 40 dX6_ahead_33 (by decide) ⟨fun c33 => ?_, fun c33 => ?_⟩
      · obtain ⟨hw, -⟩ := hw
        specialize hw c33
        refine J.iconst (v := (0 : Int32)) dX6_ahead_40 (by decide) ?_
        exact (rX6_ahead_41 htr hdd hT hw)
      · obtain ⟨-, hw⟩ := hw
        specialize hw c33
        refine J.iconst (v := (3 : Int32)) dX6_ahead_36 (by decide) ?_
        refine J.goto 41 dX6_ahead_37 (by decide) ?_
        exact (rX6_ahead_41 htr hdd hT hw)
    · obtain ⟨-, hw⟩ := hw
      specialize hw c20
      refine J.iconst (v := (2 : Int32)) dX6_ahead_23 (by decide) ?_
      refine J.goto 41 dX6_ahead_24 (by decide) ?_
      exact (rX6_ahead_41 htr hdd hT hw)
  · obtain ⟨-, hw⟩ := hw
    specialize hw c6
    refine J.iconst (v := (1 : Int32)) dX6_ahead_9 (by decide) ?_
    refine J.goto 41 dX6_ahead_10 (by decide) ?_
    exact (rX6_ahead_41 htr hdd hT hw)
abbrev MX6_trial : jM := (yX6_trial, cX6_trial, 5, some .int, [])
-- VisitingHoursModel.trial(IZ)I
def wX6_trial_54 (t : Nat) (sh : List jH) (R : Nat → Nat → Option Nat) (a1 : Int32) (a2 : Int32) (Q : Int32 → (Nat → Nat → Int32) → Prop) (V : Nat → Nat → Int32) (s0 : Int32) : Prop :=
  (wX6_comesBack t V (fun V57 => Q s0 V57))
theorem rX6_trial_54 {G : jG} {l : Launch} {d : Nat} {c n : Nat} (htr : l.stackTraces = false) (hdd : 74 ≤ d) {sh : List jH} {R : Nat → Nat → Option Nat} {t : Nat} (hT : jReg shX6 sh t) {a1 : Int32} {a2 : Int32} {Q : Int32 → (Nat → Nat → Int32) → Prop} {V : Nat → Nat → Int32} {s0 : Int32} (hw : wX6_trial_54 t sh R a1 a2 Q V s0) : J G l MX6_trial d c n 54 [(0, .ref t)] [.int s0] (mk sh V R) (jWr sh R Q) jNo := by
  unfold wX6_trial_54 at hw
  refine J.istore (lv' := [(4, .int s0), (0, .ref t)]) dX6_trial_54 (by decide) rfl ?_
  refine J.aload_n 1 dX6_trial_56 rfl ?_
  refine uX6_202 rfl htr hT dX6_trial_57 (by omega) (Nat.le_of_ble_eq_true rfl) hw ?_
  clear hw
  intro V57 hw
  refine J.iload 0 dX6_trial_60 rfl ?_
  exact J.iret rfl dX6_trial_62 ⟨_, rfl, _, rfl, hw⟩
def wX6_trial_16 (t : Nat) (sh : List jH) (R : Nat → Nat → Option Nat) (a1 : Int32) (a2 : Int32) (Q : Int32 → (Nat → Nat → Int32) → Prop) (V : Nat → Nat → Int32) (s1 : Int32) : Prop :=
  ((((vset V t 0 s1) t 0) ≤ 0 → (wX6_putsAside t (vset V t 0 s1) (fun V29 => (wX6_goes t sh R V29 a1 (1 : Int32) (fun r35 V35 => ((a2 = 0 → (wX6_gladness t V35 (fun r51 => wX6_trial_54 t sh R a1 a2 Q V35 r51))) ∧ (¬ a2 = 0 → wX6_trial_54 t sh R a1 a2 Q V35 (V35 t 20)))))))) ∧ (¬ ((vset V t 0 s1) t 0) ≤ 0 → Q (0 : Int32) (vset V t 0 s1)))
theorem rX6_trial_16 {G : jG} {l : Launch} {d : Nat} {c n : Nat} (htr : l.stackTraces = false) (hdd : 74 ≤ d) {sh : List jH} {R : Nat → Nat → Option Nat} {t : Nat} (hT : jReg shX6 sh t) {a1 : Int32} {a2 : Int32} {Q : Int32 → (Nat → Nat → Int32) → Prop} {V : Nat → Nat → Int32} {s1 : Int32} (hw : wX6_trial_16 t sh R a1 a2 Q V s1) : J G l MX6_trial d c n 16 [(0, .ref t), (1, .int a1), (2, .int a2)] [.int s1, .ref t] (mk sh V R) (jWr sh R Q) jNo := by
  unfold wX6_trial_16 at hw
  refine fpX6_54 rfl hT dX6_trial_16 ?_
  refine J.aload_n 0 dX6_trial_19 rfl ?_
  refine fgX6_54 rfl hT dX6_trial_20 ?_
  refine J.if_le 28 dX6_trial_23 (by decide) ⟨fun c23 => ?_, fun c23 => ?_⟩
  · obtain ⟨hw, -⟩ := hw
    specialize hw c23
    refine J.aload_n 0 dX6_trial_28 rfl ?_
    refine uX6_192 rfl htr hT dX6_trial_29 (by omega) (Nat.le_of_ble_eq_true rfl) hw ?_
    clear hw
    intro V29 hw
    refine J.aload_n 0 dX6_trial_32 rfl ?_
    refine J.iload_n 1 dX6_trial_33 rfl ?_
    refine J.iconst (v := (1 : Int32)) dX6_trial_34 (by decide) ?_
    refine uX6_347 rfl htr hT dX6_trial_35 (by omega) (Nat.le_of_ble_eq_true rfl) hw ?_
    clear hw
    intro r35 V35 hw
    refine J.istore_n (lv' := [(3, .int r35), (0, .ref t), (1, .int a1), (2, .int a2)]) dX6_trial_38 (by decide) rfl ?_
    refine J.iload_n 3 dX6_trial_39 rfl ?_
    refine J.if_eq 50 dX6_trial_40 (by decide) ⟨fun c40 => ?_, fun c40 => ?_⟩
    · obtain ⟨hw, -⟩ := hw
      specialize hw c40
      refine J.aload_n 1 dX6_trial_50 rfl ?_
      refine uX6_319 rfl htr hT dX6_trial_51 (by omega) (Nat.le_of_ble_eq_true rfl) hw ?_
      clear hw
      intro r51 hw
      exact J.pick [1] rfl (rX6_trial_54 htr hdd hT hw)
    · obtain ⟨-, hw⟩ := hw
      specialize hw c40
      refine J.aload_n 1 dX6_trial_43 rfl ?_
      refine fgX6_294 rfl hT dX6_trial_44 ?_
      refine J.goto 54 dX6_trial_47 (by decide) ?_
      exact J.pick [1] rfl (rX6_trial_54 htr hdd hT hw)
  · obtain ⟨-, hw⟩ := hw
    specialize hw c23
    refine J.iconst (v := (0 : Int32)) dX6_trial_26 (by decide) ?_
    exact J.iret rfl dX6_trial_27 ⟨_, rfl, _, rfl, hw⟩
def wX6_trial (t : Nat) (sh : List jH) (R : Nat → Nat → Option Nat) (V : Nat → Nat → Int32) (a1 : Int32) (a2 : Int32) (Q : Int32 → (Nat → Nat → Int32) → Prop) : Prop :=
  (wX6_isIn a1 (0 : Int32) (60 : Int32) (fun r5 => ((¬ r5 = 0 → wX6_trial_16 t sh R a1 a2 Q V (0 : Int32)) ∧ (r5 = 0 → wX6_trial_16 t sh R a1 a2 Q V (1 : Int32)))))
theorem mX6_trial {G : jG} {l : Launch} {d : Nat} (htr : l.stackTraces = false) (hdd : 74 ≤ d) {sh : List jH} {R : Nat → Nat → Option Nat} {V : Nat → Nat → Int32} {t : Nat} (hT : jReg shX6 sh t) {a1 : Int32} {a2 : Int32} {Q : Int32 → (Nat → Nat → Int32) → Prop} (hw : wX6_trial t sh R V a1 a2 Q) : JM G l MX6_trial d 0 0 [.ref t, .int a1, .int a2] (mk sh V R) (jWr sh R Q) jNo := by
  refine JM.intro (by decide) rfl htr (Nat.le_of_ble_eq_true rfl) ?_
  show J G l MX6_trial d 0 0 0 [(0, .ref t), (1, .int a1), (2, .int a2)] [] (mk sh V R) _ _
  unfold wX6_trial at hw
  refine J.aload_n 0 dX6_trial_0 rfl ?_
  refine J.iload_n 1 dX6_trial_1 rfl ?_
  refine J.iconst (v := (0 : Int32)) dX6_trial_2 (by decide) ?_
  refine J.bipush (v := (60 : Int32)) dX6_trial_3 (by decide) ?_
  refine uX6_57 rfl htr dX6_trial_5 (by omega) (Nat.le_of_ble_eq_true rfl) hw ?_
  clear hw
  intro r5 hw
  refine J.if_ne 15 dX6_trial_8 (by decide) ⟨fun c8 => ?_, fun c8 => ?_⟩
  · obtain ⟨hw, -⟩ := hw
    specialize hw c8
    refine J.iconst (v := (0 : Int32)) dX6_trial_15 (by decide) ?_
    exact (rX6_trial_16 htr hdd hT hw)
  · obtain ⟨-, hw⟩ := hw
    specialize hw c8
    refine J.iconst (v := (1 : Int32)) dX6_trial_11 (by decide) ?_
    refine J.goto 16 dX6_trial_12 (by decide) ?_
    exact (rX6_trial_16 htr hdd hT hw)
abbrev MX6_span : jM := (yX6_span, cX6_span, 7, some .int, [])
-- VisitingHoursModel.span(IZ)I
def wX6_span_37 (t : Nat) (sh : List jH) (R : Nat → Nat → Option Nat) (a1 : Int32) (a2 : Int32) (Q : Int32 → (Nat → Nat → Int32) → Prop) : Nat → (Nat → Nat → Int32) → Int32 → Int32 → Prop
  | 0, _, _, _ => False
  | f + 1, V, x3, x4 =>
    (((6 : Int32) < x4 → Q x3 V) ∧ (¬ (6 : Int32) < x4 → (wX6_goes t sh R (vset V (t + 1) 10 x4) a1 (1 : Int32) (fun r56 V56 => (wX6_gladness t V56 (fun r62 => (wX6_comesBack t V56 (fun V68 => ((¬ x3 = (-1 : Int32) → ((a2 = 0 → (wX6_lesser x3 r62 (fun r97 => (∀ y101 : Int32, y101 = x4 + (1 : Int32) → wX6_span_37 t sh R a1 a2 Q f V68 r97 y101)))) ∧ (¬ a2 = 0 → (wX6_greater x3 r62 (fun r88 => (∀ y101 : Int32, y101 = x4 + (1 : Int32) → wX6_span_37 t sh R a1 a2 Q f V68 r88 y101)))))) ∧ (x3 = (-1 : Int32) → (∀ y101 : Int32, y101 = x4 + (1 : Int32) → wX6_span_37 t sh R a1 a2 Q f V68 r62 y101)))))))))))
theorem rX6_span_37 {G : jG} {l : Launch} {d : Nat} {c n : Nat} (htr : l.stackTraces = false) (hdd : 74 ≤ d) {sh : List jH} {R : Nat → Nat → Option Nat} {t : Nat} (hT : jReg shX6 sh t) {a1 : Int32} {a2 : Int32} {Q : Int32 → (Nat → Nat → Int32) → Prop} : ∀ (f : Nat) (V : Nat → Nat → Int32) (x3 : Int32) (x4 : Int32), wX6_span_37 t sh R a1 a2 Q f V x3 x4 → J G l MX6_span d c n 37 [(0, .ref t), (1, .int a1), (2, .int a2), (3, .int x3), (4, .int x4)] [] (mk sh V R) (jWr sh R Q) jNo := by
  intro f
  induction f with
  | zero =>
    intro V x3 x4 hw
    rw [wX6_span_37] at hw
    exact hw.elim
  | succ f ih =>
    intro V x3 x4 hw
    rw [wX6_span_37] at hw
    refine J.iload 4 dX6_span_37 rfl ?_
    refine J.bipush (v := (6 : Int32)) dX6_span_39 (by decide) ?_
    refine J.icmp_gt 107 dX6_span_41 (by decide) ⟨fun c41 => ?_, fun c41 => ?_⟩
    · obtain ⟨hw, -⟩ := hw
      specialize hw c41
      refine J.iload_n 3 dX6_span_107 rfl ?_
      exact J.iret rfl dX6_span_108 ⟨_, rfl, _, rfl, hw⟩
    · obtain ⟨-, hw⟩ := hw
      specialize hw c41
      refine J.aload_n 0 dX6_span_44 rfl ?_
      refine fgX6_7 rfl hT dX6_span_45 ?_
      refine J.bipush (v := (10 : Int32)) dX6_span_48 (by decide) ?_
      refine J.iload 4 dX6_span_50 rfl ?_
      refine JV.iastK 10 dX6_span_52 (hT.ge 1) (hT.at 1 rfl) rfl (by decide) (by decide) ?_
      refine J.aload_n 0 dX6_span_53 rfl ?_
      refine J.iload_n 1 dX6_span_54 rfl ?_
      refine J.iconst (v := (1 : Int32)) dX6_span_55 (by decide) ?_
      refine uX6_347 rfl htr hT dX6_span_56 (by omega) (Nat.le_of_ble_eq_true rfl) hw ?_
      clear hw
      intro r56 V56 hw
      refine J.istore (lv' := [(5, .int r56), (0, .ref t), (1, .int a1), (2, .int a2), (3, .int x3), (4, .int x4)]) dX6_span_59 (by decide) rfl ?_
      refine J.aload_n 1 dX6_span_61 rfl ?_
      refine uX6_319 rfl htr hT dX6_span_62 (by omega) (Nat.le_of_ble_eq_true rfl) hw ?_
      clear hw
      intro r62 hw
      refine J.istore (lv' := [(6, .int r62), (5, .int r56), (0, .ref t), (1, .int a1), (2, .int a2), (3, .int x3), (4, .int x4)]) dX6_span_65 (by decide) rfl ?_
      refine J.aload_n 2 dX6_span_67 rfl ?_
      refine uX6_202 rfl htr hT dX6_span_68 (by omega) (Nat.le_of_ble_eq_true rfl) hw ?_
      clear hw
      intro V68 hw
      refine J.iload_n 5 dX6_span_71 rfl ?_
      refine J.iconst (v := (-1 : Int32)) dX6_span_72 (by decide) ?_
      refine J.icmp_ne 81 dX6_span_73 (by decide) ⟨fun c73 => ?_, fun c73 => ?_⟩
      · obtain ⟨hw, -⟩ := hw
        specialize hw c73
        refine J.iload_n 4 dX6_span_81 rfl ?_
        refine J.if_eq 94 dX6_span_82 (by decide) ⟨fun c82 => ?_, fun c82 => ?_⟩
        · obtain ⟨hw, -⟩ := hw
          specialize hw c82
          refine J.iload_n 5 dX6_span_94 rfl ?_
          refine J.iload 0 dX6_span_95 rfl ?_
          refine uX6_124 rfl htr dX6_span_97 (by omega) (Nat.le_of_ble_eq_true rfl) hw ?_
          clear hw
          intro r97 hw
          refine J.istore_n (lv' := [(3, .int r97), (6, .int r62), (5, .int r56), (0, .ref t), (1, .int a1), (2, .int a2), (4, .int x4)]) dX6_span_100 (by decide) rfl ?_
          refine J.iincN 6 (K := (1 : Int32)) (lv' := fun y101 => [(4, .int y101), (3, .int r97), (6, .int r62), (5, .int r56), (0, .ref t), (1, .int a1), (2, .int a2)]) dX6_span_101 rfl (by decide) (by decide) (fun _ => rfl) hw (fun y101 hw => ?_)
          refine J.goto 37 dX6_span_104 (by decide) ?_
          exact J.pick [4, 5, 6, 1, 0] rfl (ih _ _ _ hw)
        · obtain ⟨-, hw⟩ := hw
          specialize hw c82
          refine J.iload_n 5 dX6_span_85 rfl ?_
          refine J.iload 0 dX6_span_86 rfl ?_
          refine uX6_277 rfl htr dX6_span_88 (by omega) (Nat.le_of_ble_eq_true rfl) hw ?_
          clear hw
          intro r88 hw
          refine J.goto 100 dX6_span_91 (by decide) ?_
          refine J.istore_n (lv' := [(3, .int r88), (6, .int r62), (5, .int r56), (0, .ref t), (1, .int a1), (2, .int a2), (4, .int x4)]) dX6_span_100 (by decide) rfl ?_
          refine J.iincN 6 (K := (1 : Int32)) (lv' := fun y101 => [(4, .int y101), (3, .int r88), (6, .int r62), (5, .int r56), (0, .ref t), (1, .int a1), (2, .int a2)]) dX6_span_101 rfl (by decide) (by decide) (fun _ => rfl) hw (fun y101 hw => ?_)
          refine J.goto 37 dX6_span_104 (by decide) ?_
          exact J.pick [4, 5, 6, 1, 0] rfl (ih _ _ _ hw)
      · obtain ⟨-, hw⟩ := hw
        specialize hw c73
        refine J.iload 0 dX6_span_76 rfl ?_
        refine J.goto 100 dX6_span_78 (by decide) ?_
        refine J.istore_n (lv' := [(3, .int r62), (6, .int r62), (5, .int r56), (0, .ref t), (1, .int a1), (2, .int a2), (4, .int x4)]) dX6_span_100 (by decide) rfl ?_
        refine J.iincN 6 (K := (1 : Int32)) (lv' := fun y101 => [(4, .int y101), (3, .int r62), (6, .int r62), (5, .int r56), (0, .ref t), (1, .int a1), (2, .int a2)]) dX6_span_101 rfl (by decide) (by decide) (fun _ => rfl) hw (fun y101 hw => ?_)
        refine J.goto 37 dX6_span_104 (by decide) ?_
        exact J.pick [4, 5, 6, 1, 0] rfl (ih _ _ _ hw)
def wX6_span_16 (t : Nat) (sh : List jH) (R : Nat → Nat → Option Nat) (a1 : Int32) (a2 : Int32) (Q : Int32 → (Nat → Nat → Int32) → Prop) (V : Nat → Nat → Int32) (s1 : Int32) : Prop :=
  ((((vset V t 0 s1) t 0) ≤ 0 → (wX6_putsAside t (vset V t 0 s1) (fun V29 => (∃ f9, wX6_span_37 t sh R a1 a2 Q f9 V29 (-1 : Int32) (1 : Int32))))) ∧ (¬ ((vset V t 0 s1) t 0) ≤ 0 → Q (0 : Int32) (vset V t 0 s1)))
theorem rX6_span_16 {G : jG} {l : Launch} {d : Nat} {c n : Nat} (htr : l.stackTraces = false) (hdd : 74 ≤ d) {sh : List jH} {R : Nat → Nat → Option Nat} {t : Nat} (hT : jReg shX6 sh t) {a1 : Int32} {a2 : Int32} {Q : Int32 → (Nat → Nat → Int32) → Prop} {V : Nat → Nat → Int32} {s1 : Int32} (hw : wX6_span_16 t sh R a1 a2 Q V s1) : J G l MX6_span d c n 16 [(0, .ref t), (1, .int a1), (2, .int a2)] [.int s1, .ref t] (mk sh V R) (jWr sh R Q) jNo := by
  unfold wX6_span_16 at hw
  refine fpX6_54 rfl hT dX6_span_16 ?_
  refine J.aload_n 0 dX6_span_19 rfl ?_
  refine fgX6_54 rfl hT dX6_span_20 ?_
  refine J.if_le 28 dX6_span_23 (by decide) ⟨fun c23 => ?_, fun c23 => ?_⟩
  · obtain ⟨hw, -⟩ := hw
    specialize hw c23
    refine J.aload_n 0 dX6_span_28 rfl ?_
    refine uX6_192 rfl htr hT dX6_span_29 (by omega) (Nat.le_of_ble_eq_true rfl) hw ?_
    clear hw
    intro V29 hw
    refine J.iconst (v := (-1 : Int32)) dX6_span_32 (by decide) ?_
    refine J.istore_n (lv' := [(3, .int (-1 : Int32)), (0, .ref t), (1, .int a1), (2, .int a2)]) dX6_span_33 (by decide) rfl ?_
    refine J.iconst (v := (1 : Int32)) dX6_span_34 (by decide) ?_
    refine J.istore (lv' := [(4, .int (1 : Int32)), (3, .int (-1 : Int32)), (0, .ref t), (1, .int a1), (2, .int a2)]) dX6_span_35 (by decide) rfl ?_
    obtain ⟨f9, hw⟩ := hw
    exact J.pick [2, 3, 4, 1, 0] rfl (rX6_span_37 htr hdd hT f9 _ _ _ hw)
  · obtain ⟨-, hw⟩ := hw
    specialize hw c23
    refine J.iconst (v := (0 : Int32)) dX6_span_26 (by decide) ?_
    exact J.iret rfl dX6_span_27 ⟨_, rfl, _, rfl, hw⟩
def wX6_span (t : Nat) (sh : List jH) (R : Nat → Nat → Option Nat) (V : Nat → Nat → Int32) (a1 : Int32) (a2 : Int32) (Q : Int32 → (Nat → Nat → Int32) → Prop) : Prop :=
  (wX6_isIn a1 (0 : Int32) (60 : Int32) (fun r5 => ((¬ r5 = 0 → wX6_span_16 t sh R a1 a2 Q V (0 : Int32)) ∧ (r5 = 0 → wX6_span_16 t sh R a1 a2 Q V (1 : Int32)))))
theorem mX6_span {G : jG} {l : Launch} {d : Nat} (htr : l.stackTraces = false) (hdd : 74 ≤ d) {sh : List jH} {R : Nat → Nat → Option Nat} {V : Nat → Nat → Int32} {t : Nat} (hT : jReg shX6 sh t) {a1 : Int32} {a2 : Int32} {Q : Int32 → (Nat → Nat → Int32) → Prop} (hw : wX6_span t sh R V a1 a2 Q) : JM G l MX6_span d 0 0 [.ref t, .int a1, .int a2] (mk sh V R) (jWr sh R Q) jNo := by
  refine JM.intro (by decide) rfl htr (Nat.le_of_ble_eq_true rfl) ?_
  show J G l MX6_span d 0 0 0 [(0, .ref t), (1, .int a1), (2, .int a2)] [] (mk sh V R) _ _
  unfold wX6_span at hw
  refine J.aload_n 0 dX6_span_0 rfl ?_
  refine J.iload_n 1 dX6_span_1 rfl ?_
  refine J.iconst (v := (0 : Int32)) dX6_span_2 (by decide) ?_
  refine J.bipush (v := (60 : Int32)) dX6_span_3 (by decide) ?_
  refine uX6_57 rfl htr dX6_span_5 (by omega) (Nat.le_of_ble_eq_true rfl) hw ?_
  clear hw
  intro r5 hw
  refine J.if_ne 15 dX6_span_8 (by decide) ⟨fun c8 => ?_, fun c8 => ?_⟩
  · obtain ⟨hw, -⟩ := hw
    specialize hw c8
    refine J.iconst (v := (0 : Int32)) dX6_span_15 (by decide) ?_
    exact (rX6_span_16 htr hdd hT hw)
  · obtain ⟨-, hw⟩ := hw
    specialize hw c8
    refine J.iconst (v := (1 : Int32)) dX6_span_11 (by decide) ?_
    refine J.goto 16 dX6_span_12 (by decide) ?_
    exact (rX6_span_16 htr hdd hT hw)
