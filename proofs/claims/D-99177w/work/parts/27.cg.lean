theorem fgX3_9 {G : jG} {l : Launch} {M : jM} {d c n pc : Nat} {lv : List (Nat × Value)} {st : List Value} {sh : List jH} {V : Nat → Nat → Int32} {R : Nat → Nat → Option Nat} {post : Option Value → List jC → Prop} {xp : String → List jC → Prop} {r : Nat} (hM : M.1.cls = RX3) (hT : jReg shX3 sh r) (hd : decode M.2.1 pc = .ok (.getfield 9, 3)) (kk : J G l M d c n (pc + 3) lv (.ref (r + 1) :: st) (mk sh V R) post xp) : J G l M d c n pc lv (.ref r :: st) (mk sh V R) post xp := JV.getf (C := RX3) (T0 := TX3) (N := 7) 0 hd hT.1 (hT.at 0 rfl) rfl in_X3 (by decide) (by rw [hM]; exact q303) rfl rfl kk
theorem fgX3_25 {G : jG} {l : Launch} {M : jM} {d c n pc : Nat} {lv : List (Nat × Value)} {st : List Value} {sh : List jH} {V : Nat → Nat → Int32} {R : Nat → Nat → Option Nat} {post : Option Value → List jC → Prop} {xp : String → List jC → Prop} {r : Nat} (hM : M.1.cls = RX3) (hT : jReg shX3 sh r) (hd : decode M.2.1 pc = .ok (.getfield 25, 3)) (kk : J G l M d c n (pc + 3) lv (.int (V r 3) :: st) (mk sh V R) post xp) : J G l M d c n pc lv (.ref r :: st) (mk sh V R) post xp := JV.getf (C := RX3) (T0 := TX3) (N := 7) 3 hd hT.1 (hT.at 0 rfl) rfl in_X3 (by decide) (by rw [hM]; exact q308) rfl rfl kk
theorem fpX3_25 {G : jG} {l : Launch} {M : jM} {d c n pc : Nat} {lv : List (Nat × Value)} {st : List Value} {sh : List jH} {V : Nat → Nat → Int32} {R : Nat → Nat → Option Nat} {post : Option Value → List jC → Prop} {xp : String → List jC → Prop} {r : Nat} (hM : M.1.cls = RX3) (hT : jReg shX3 sh r) {x9 : Int32} (hd : decode M.2.1 pc = .ok (.putfield 25, 3)) (kk : J G l M d c n (pc + 3) lv st (mk sh (vset V r 3 x9) R) post xp) : J G l M d c n pc lv (.int x9 :: .ref r :: st) (mk sh V R) post xp := JV.puti (C := RX3) (T0 := TX3) (N := 7) (o := 0) 3 hd hT.1 (hT.at 0 rfl) rfl in_X3 tyX3 tyX3_ok nmX3 (by decide) (by rw [hM]; exact q308) rfl rfl (ji_put x9) rfl kk
theorem fgX3_35 {G : jG} {l : Launch} {M : jM} {d c n pc : Nat} {lv : List (Nat × Value)} {st : List Value} {sh : List jH} {V : Nat → Nat → Int32} {R : Nat → Nat → Option Nat} {post : Option Value → List jC → Prop} {xp : String → List jC → Prop} {r : Nat} (hM : M.1.cls = RX3) (hT : jReg shX3 sh r) (hd : decode M.2.1 pc = .ok (.getfield 35, 3)) (kk : J G l M d c n (pc + 3) lv (.int (V r 4) :: st) (mk sh V R) post xp) : J G l M d c n pc lv (.ref r :: st) (mk sh V R) post xp := JV.getf (C := RX3) (T0 := TX3) (N := 7) 4 hd hT.1 (hT.at 0 rfl) rfl in_X3 (by decide) (by rw [hM]; exact q310) rfl rfl kk
theorem niX3_47 {G : jG} {l : Launch} {M : jM} {d c n pc : Nat} {lv : List (Nat × Value)} {rest : List Value} {g : List jC} {post : Option Value → List jC → Prop} {xp : String → List jC → Prop} (hM : M.1.cls = RX3) (htr : l.stackTraces = false) {h : Nat} {c1 n1 cq nq : Nat} {Q : List jC → Prop} (hd : decode M.2.1 pc = .ok (.invokespecial 47, 3)) (hdd : 2 + 1 ≤ d) (hw8 : (rest.map fun v => v.category).sum ≤ 8) (hw : wJ4_init g c1 n1 h Q) (hcc : c1 + c ≤ cq ∧ n1 + n ≤ nq) (kk : ∀ g', Q g' → J G l M d c n (pc + 3) lv rest g' post xp) : J G l M d cq nq pc lv (.ref h :: rest) g post xp :=
  J.callI (M' := MJ4_init) (As := []) (hcw := lw_meth q849) (hini := q155) (hlk := by rw [hM]; exact q847) (hin := q848) (hret := rfl) (mJ4_init htr (Nat.le_refl _) hw) hd rfl rfl ⟨by decide, by decide, by show _ = some 0; decide +kernel⟩ hw8 ⟨hdd, by decide⟩ hcc (fun r9 g9 h9 => by obtain ⟨rfl, h⟩ := h9; exact kk g9 h) jNo.x
theorem nrX3_48 {G : jG} {l : Launch} {M : jM} {d c n pc : Nat} {lv : List (Nat × Value)} {rest : List Value} {g : List jC} {post : Option Value → List jC → Prop} {xp : String → List jC → Prop} (hM : M.1.cls = RX3) (htr : l.stackTraces = false) {h : Nat} {a1 : Int32} {c1 n1 cq nq : Nat} {fs9 : List Value} (hk9 : g[h]? = some (.inr (16, fs9))) {Q : Option Nat → List jC → Prop} (hd : decode M.2.1 pc = .ok (.invokevirtual 48, 3)) (hdd : 6 + 1 ≤ d) (hw8 : (rest.map fun v => v.category).sum ≤ 8) (hw : wJ4_append g c1 n1 h a1 Q) (hcc : c1 + c ≤ cq ∧ n1 + n ≤ nq) (kk : ∀ r g', Q r g' → J G l M d c n (pc + 3) lv (va_rf r :: rest) g' post xp) : J G l M d cq nq pc lv (.int a1 :: .ref h :: rest) g post xp :=
  J.callV (As := [.int a1]) (hcw := by rw [hM]; exact lw_V q876 q877 q878 q155 q879) (mJ4_append htr (Nat.le_refl _) hw) hd rfl ⟨16, _, _, hk9, rfl, rfl, fun _ => rfl⟩ ⟨rfl, by decide, by decide, by show _ = some 1; decide +kernel⟩ hw8 ⟨hdd, by decide⟩ hcc (fun r9 g9 h9 => by obtain ⟨r, rfl, h⟩ := h9; exact kk r g9 h) jNo.x
theorem nrX3_52 {G : jG} {l : Launch} {M : jM} {d c n pc : Nat} {lv : List (Nat × Value)} {rest : List Value} {g : List jC} {post : Option Value → List jC → Prop} {xp : String → List jC → Prop} (hM : M.1.cls = RX3) (htr : l.stackTraces = false) {h : Nat} {c1 n1 cq nq : Nat} {fs9 : List Value} (hk9 : g[h]? = some (.inr (16, fs9))) {Q : Option Nat → List jC → Prop} (hd : decode M.2.1 pc = .ok (.invokevirtual 52, 3)) (hdd : 6 + 1 ≤ d) (hw8 : (rest.map fun v => v.category).sum ≤ 8) (hw : wJ4_toString g c1 n1 h Q) (hcc : c1 + c ≤ cq ∧ n1 + n ≤ nq) (kk : ∀ r g', Q r g' → J G l M d c n (pc + 3) lv (va_rf r :: rest) g' post xp) : J G l M d cq nq pc lv (.ref h :: rest) g post xp :=
  J.callV (As := []) (hcw := by rw [hM]; exact lw_V q965 q966 q967 q155 q968) (mJ4_toString htr (Nat.le_refl _) hw) hd rfl ⟨16, _, _, hk9, rfl, rfl, fun _ => rfl⟩ ⟨rfl, by decide, by decide, by show _ = some 0; decide +kernel⟩ hw8 ⟨hdd, by decide⟩ hcc (fun r9 g9 h9 => by obtain ⟨r, rfl, h⟩ := h9; exact kk r g9 h) jNo.x
abbrev MX3_word : jM := (yX3_word, cX3_word, 3, some (.object "java/lang/String"), [])
theorem uX3_31 {G : jG} {l : Launch} {M : jM} {d c n pc : Nat} {lv : List (Nat × Value)} {rest : List Value} {post : Option Value → List jC → Prop} {xp : String → List jC → Prop} (hM : M.1.cls = RX3) (htr : l.stackTraces = false) {sh : List jH} {V : Nat → Nat → Int32} {R : Nat → Nat → Option Nat} {r : Nat} (hT : jReg shX3 sh r) {a1 : Int32} {Q : Int32 → Prop} (hd : decode M.2.1 pc = .ok (.invokevirtual 31, 3)) (hdd : 0 + 1 ≤ d) (hw8 : (rest.map fun v => v.category).sum ≤ 8) (hw : wX3_byteAt r V a1 Q) (kk : ∀ r, Q r → J G l M d c n (pc + 3) lv (.int r :: rest) (mk sh V R) post xp) : J G l M d c n pc lv (.int a1 :: .ref r :: rest) (mk sh V R) post xp := by
  exact J.callV (As := [.int a1]) (hcw := by rw [hM]; exact lw_V q830 q832 qs19 q146 q833) (mX3_byteAt htr hT hw) hd rfl ⟨2, _, _, mk_at (hT.at 0 rfl), rfl, rfl, fun _ => rfl⟩ ⟨rfl, by decide, by decide, by show _ = some 1; decide +kernel⟩ hw8 ⟨hdd, by decide⟩ jcc0 (fun r9 g9 h9 => by obtain ⟨rfl, r, rfl, h⟩ := h9; exact kk r h) jNo.x
theorem uX3_38 {G : jG} {l : Launch} {M : jM} {d c n pc : Nat} {lv : List (Nat × Value)} {rest : List Value} {post : Option Value → List jC → Prop} {xp : String → List jC → Prop} (hM : M.1.cls = RX3) (htr : l.stackTraces = false) {sh : List jH} {V : Nat → Nat → Int32} {R : Nat → Nat → Option Nat} {r : Nat} (hT : jReg shX3 sh r) {Q : (Nat → Nat → Int32) → Prop} (hd : decode M.2.1 pc = .ok (.invokevirtual 38, 3)) (hdd : 1 + 1 ≤ d) (hw8 : (rest.map fun v => v.category).sum ≤ 8) (hw : wX3_blanks r V Q) (kk : ∀ V', Q V' → J G l M d c n (pc + 3) lv rest (mk sh V' R) post xp) : J G l M d c n pc lv (.ref r :: rest) (mk sh V R) post xp := by
  exact J.callV (As := []) (hcw := by rw [hM]; exact lw_V q826 q827 q828 q146 q829) (mX3_blanks htr hT hw) hd rfl ⟨2, _, _, mk_at (hT.at 0 rfl), rfl, rfl, fun _ => rfl⟩ ⟨rfl, by decide, by decide, by show _ = some 0; decide +kernel⟩ hw8 ⟨hdd, by decide⟩ jcc0 (fun r9 g9 h9 => by obtain ⟨V9, rfl, rfl, h⟩ := h9; exact kk V9 h) jNo.x
theorem uX3_41 {G : jG} {l : Launch} {M : jM} {d c n pc : Nat} {lv : List (Nat × Value)} {rest : List Value} {post : Option Value → List jC → Prop} {xp : String → List jC → Prop} (hM : M.1.cls = RX3) (htr : l.stackTraces = false) {sh : List jH} {V : Nat → Nat → Int32} {R : Nat → Nat → Option Nat} {a1 : Int32} {a2 : Int32} {a3 : Int32} {Q : Int32 → Prop} (hd : decode M.2.1 pc = .ok (.invokestatic 41, 3)) (hdd : 0 + 1 ≤ d) (hw8 : (rest.map fun v => v.category).sum ≤ 8) (hw : wX1_in a1 a2 a3 Q) (kk : ∀ r, Q r → J G l M d c n (pc + 3) lv (.int r :: rest) (mk sh V R) post xp) : J G l M d c n pc lv (.int a3 :: .int a2 :: .int a1 :: rest) (mk sh V R) post xp := by
  exact J.callSN (M' := MX1_in) (As := [.int a1, .int a2, .int a3]) (hcw := lw_meth q844) (hlk := by rw [hM]; exact nw842) (hini := q144) (hin := q843) (mX1_in htr hw) hd rfl ⟨by decide, by decide, by show _ = some 3; decide +kernel⟩ hw8 ⟨hdd, by decide⟩ jcc0 (fun r9 g9 h9 => by obtain ⟨rfl, r, rfl, h⟩ := h9; exact kk r h) jNo.x
-- VisitingHours$Reader.word()Ljava/lang/String;
def wX3_word_48 (r : Nat) (Q : Option Nat → List jH → (Nat → Nat → Int32) → (Nat → Nat → Option Nat) → Prop) : Nat → List jH → (Nat → Nat → Int32) → (Nat → Nat → Option Nat) → Nat → Nat → Nat → Int32 → Prop
  | 0, _, _, _, _, _, _, _ => False
  | f + 1, sh, V, R, c, n, x1, x2 =>
    (((V r 3) ≤ x2 → (∃ fs75 : List Value, (mk sh V R)[x1]? = some (.inr (16, fs75)) ∧ (∃ c175 n175 c275 n275 : Nat, c175 + c275 ≤ c ∧ n175 + n275 ≤ n ∧ wJ4_toString (mk sh V R) c175 n175 x1 (fun r75 g75 => (∃ (sh75 : List jH) (V75 : Nat → Nat → Int32) (R75 : Nat → Nat → Option Nat), g75 = mk sh75 V75 R75 ∧ (jReg shX3 sh75 r ∧ Q r75 sh75 V75 R75)))))) ∧ (¬ (V r 3) ≤ x2 → (vp_in x2 400 ∧ (∃ fs64 : List Value, (mk sh V R)[x1]? = some (.inr (16, fs64)) ∧ (∃ c164 n164 c264 n264 : Nat, c164 + c264 ≤ c ∧ n164 + n264 ≤ n ∧ wJ4_append (mk sh V R) c164 n164 x1 (((V (r + 1) x2.toNatClampNeg).toUInt32 % 65536).toInt32) (fun r64 g64 => (∃ (sh64 : List jH) (V64 : Nat → Nat → Int32) (R64 : Nat → Nat → Option Nat), g64 = mk sh64 V64 R64 ∧ (jReg shX3 sh64 r ∧ (∀ y68 : Int32, y68 = x2 + (1 : Int32) → wX3_word_48 r Q f sh64 V64 R64 c264 n264 x1 y68)))))))))
theorem rX3_word_48 {G : jG} {l : Launch} {d : Nat} (htr : l.stackTraces = false) (hdd : 7 ≤ d) {r : Nat} {Q : Option Nat → List jH → (Nat → Nat → Int32) → (Nat → Nat → Option Nat) → Prop} : ∀ (f : Nat) (sh : List jH) (V : Nat → Nat → Int32) (R : Nat → Nat → Option Nat) (c : Nat) (n : Nat) (x1 : Nat) (x2 : Int32) (hT : jReg shX3 sh r), wX3_word_48 r Q f sh V R c n x1 x2 → J G l MX3_word d c n 48 [(0, .ref r), (1, .ref x1), (2, .int x2)] [] (mk sh V R) (jSq Q) jNo := by
  intro f
  induction f with
  | zero =>
    intro sh V R c n x1 x2 hT hw
    rw [wX3_word_48] at hw
    exact hw.elim
  | succ f ih =>
    intro sh V R c n x1 x2 hT hw
    rw [wX3_word_48] at hw
    refine J.iload_n 2 dX3_word_48 rfl ?_
    refine J.aload_n 0 dX3_word_49 rfl ?_
    refine fgX3_25 rfl hT dX3_word_50 ?_
    refine J.icmp_ge 74 dX3_word_53 (by decide) ⟨fun c53 => ?_, fun c53 => ?_⟩
    · obtain ⟨hw, -⟩ := hw
      specialize hw c53
      refine J.aload_n 1 dX3_word_74 rfl ?_
      obtain ⟨fs75, hk75, hw⟩ := hw
      obtain ⟨c175, n175, c275, n275, hc75, hd75, hw⟩ := hw
      refine nrX3_52 rfl htr hk75 dX3_word_75 (by omega) (Nat.le_of_ble_eq_true rfl) hw ⟨hc75, hd75⟩ ?_
      clear hw
      intro r75 g75 hw
      obtain ⟨sh75, V75, R75, rfl, hw⟩ := hw
      clear hT
      obtain ⟨hT, hw⟩ := hw
      exact J.aret rfl (Or.inl ⟨_, rfl⟩) (va_rf_nr r75) dX3_word_78 ⟨_, _, _, rfl, _, rfl, hw⟩
    · obtain ⟨-, hw⟩ := hw
      specialize hw c53
      refine J.aload_n 1 dX3_word_56 rfl ?_
      refine J.aload_n 0 dX3_word_57 rfl ?_
      refine fgX3_9 rfl hT dX3_word_58 ?_
      refine J.iload_n 2 dX3_word_61 rfl ?_
      obtain ⟨h62, hw⟩ := hw
      refine JV.bald dX3_word_62 (hT.at 1 rfl) h62 ?_
      refine J.i2c dX3_word_63 ?_
      obtain ⟨fs64, hk64, hw⟩ := hw
      obtain ⟨c164, n164, c264, n264, hc64, hd64, hw⟩ := hw
      refine nrX3_48 rfl htr hk64 dX3_word_64 (by omega) (Nat.le_of_ble_eq_true rfl) hw ⟨hc64, hd64⟩ ?_
      clear hw
      intro r64 g64 hw
      obtain ⟨sh64, V64, R64, rfl, hw⟩ := hw
      clear hT
      obtain ⟨hT, hw⟩ := hw
      refine J.pop dX3_word_67 (va_rf_cat _) ?_
      refine J.iincN 2 (K := (1 : Int32)) (lv' := fun y68 => [(2, .int y68), (0, .ref r), (1, .ref x1)]) dX3_word_68 rfl (by decide) (by decide) (fun _ => rfl) hw (fun y68 hw => ?_)
      refine J.goto 48 dX3_word_71 (by decide) ?_
      exact J.pick [1, 2, 0] rfl (ih _ _ _ _ _ _ _ hT hw)
def wX3_word_4 (r : Nat) (Q : Option Nat → List jH → (Nat → Nat → Int32) → (Nat → Nat → Option Nat) → Prop) : Nat → List jH → (Nat → Nat → Int32) → (Nat → Nat → Option Nat) → Nat → Nat → Prop
  | 0, _, _, _, _, _ => False
  | f + 1, sh, V, R, c, n =>
    (wX3_byteAt r V (V r 3) (fun r9 => (wX1_in r9 (97 : Int32) (122 : Int32) (fun r16 => ((r16 = 0 → (∃ c35 n35, c = c35 + 1 ∧ n = n35 + 4 ∧ (∀ q35, q35 = sh.length → (∀ sh35 : List jH, sh35 = sh ++ [jF (.inr (16, [.null, .int 0, .int 0, .int 0]))] → (∃ c139 n139 c239 n239 : Nat, c139 + c239 ≤ c35 ∧ n139 + n239 ≤ n35 ∧ wJ4_init (mk sh35 V R) c139 n139 q35 (fun g39 => (∃ (sh39 : List jH) (V39 : Nat → Nat → Int32) (R39 : Nat → Nat → Option Nat), g39 = mk sh39 V39 R39 ∧ (jReg shX3 sh39 r ∧ (∀ y47 : Int32, y47 = (V39 r 4) → (∃ f9, wX3_word_48 r Q f9 sh39 V39 R39 c239 n239 q35 y47)))))))))) ∧ (¬ r16 = 0 → (∀ y29 : Int32, y29 = ((V r 3) + (1 : Int32)) → wX3_word_4 r Q f sh (vset V r 3 y29) R c n)))))))
theorem rX3_word_4 {G : jG} {l : Launch} {d : Nat} (htr : l.stackTraces = false) (hdd : 7 ≤ d) {r : Nat} {Q : Option Nat → List jH → (Nat → Nat → Int32) → (Nat → Nat → Option Nat) → Prop} : ∀ (f : Nat) (sh : List jH) (V : Nat → Nat → Int32) (R : Nat → Nat → Option Nat) (c : Nat) (n : Nat) (hT : jReg shX3 sh r), wX3_word_4 r Q f sh V R c n → J G l MX3_word d c n 4 [(0, .ref r)] [] (mk sh V R) (jSq Q) jNo := by
  intro f
  induction f with
  | zero =>
    intro sh V R c n hT hw
    rw [wX3_word_4] at hw
    exact hw.elim
  | succ f ih =>
    intro sh V R c n hT hw
    rw [wX3_word_4] at hw
    refine J.aload_n 0 dX3_word_4 rfl ?_
    refine J.aload_n 0 dX3_word_5 rfl ?_
    refine fgX3_25 rfl hT dX3_word_6 ?_
    refine uX3_31 rfl htr hT dX3_word_9 (by omega) (Nat.le_of_ble_eq_true rfl) hw ?_
    clear hw
    intro r9 hw
    refine J.bipush (v := (97 : Int32)) dX3_word_12 (by decide) ?_
    refine J.bipush (v := (122 : Int32)) dX3_word_14 (by decide) ?_
    refine uX3_41 rfl htr dX3_word_16 (by omega) (Nat.le_of_ble_eq_true rfl) hw ?_
    clear hw
    intro r16 hw
    refine J.if_eq 35 dX3_word_19 (by decide) ⟨fun c19 => ?_, fun c19 => ?_⟩
    · obtain ⟨hw, -⟩ := hw
      specialize hw c19
      obtain ⟨c35, n35, rfl, rfl, hw⟩ := hw
      refine J.new (C := RJ4) (T0 := TJ4) (N := 4) [.null, .int 0, .int 0, .int 0] dX3_word_35 (ci := 16) rfl in_J4 tyJ4 tyJ4_ok q845 q846 q155 rfl (fun _ => rfl) ?_
      rw [mk_len]
      refine J.nmr hw (fun q35 hw => ?_)
      rw [mk_pushF]
      refine J.nmsE (fun sh35 e35 => ?_)
      specialize hw sh35 e35
      replace hT := jReg.apE hT e35
      refine J.dup dX3_word_38 rfl ?_
      obtain ⟨c139, n139, c239, n239, hc39, hd39, hw⟩ := hw
      refine niX3_47 rfl htr dX3_word_39 (by omega) (Nat.le_of_ble_eq_true rfl) hw ⟨hc39, hd39⟩ ?_
      clear hw
      intro g39 hw
      obtain ⟨sh39, V39, R39, rfl, hw⟩ := hw
      clear hT
      obtain ⟨hT, hw⟩ := hw
      refine J.astore_n (lv' := [(1, .ref q35), (0, .ref r)]) dX3_word_42 (by decide) rfl ?_
      refine J.aload_n 1 dX3_word_43 rfl ?_
      refine fgX3_35 rfl hT dX3_word_44 ?_
      refine J.nm hw (fun y47 hw => ?_)
      refine J.istore_n (lv' := [(2, .int y47), (1, .ref q35), (0, .ref r)]) dX3_word_47 (by decide) rfl ?_
      obtain ⟨f9, hw⟩ := hw
      exact J.pick [2, 1, 0] rfl (rX3_word_48 htr hdd f9 _ _ _ _ _ _ _ hT hw)
    · obtain ⟨-, hw⟩ := hw
      specialize hw c19
      refine J.aload_n 0 dX3_word_22 rfl ?_
      refine J.dup dX3_word_23 rfl ?_
      refine fgX3_25 rfl hT dX3_word_24 ?_
      refine J.iconst (v := (1 : Int32)) dX3_word_27 (by decide) ?_
      refine J.iadd dX3_word_28 ?_
      refine J.nm hw (fun y29 hw => ?_)
      refine fpX3_25 rfl hT dX3_word_29 ?_
      refine J.goto 4 dX3_word_32 (by decide) ?_
      exact (ih _ _ _ _ _ hT hw)
def wX3_word (r : Nat) (sh : List jH) (V : Nat → Nat → Int32) (R : Nat → Nat → Option Nat) (c : Nat) (n : Nat) (Q : Option Nat → List jH → (Nat → Nat → Int32) → (Nat → Nat → Option Nat) → Prop) : Prop :=
  (wX3_blanks r V (fun V1 => (∃ f9, wX3_word_4 r Q f9 sh V1 R c n)))
theorem mX3_word {G : jG} {l : Launch} {d : Nat} (htr : l.stackTraces = false) (hdd : 7 ≤ d) {sh : List jH} {V : Nat → Nat → Int32} {R : Nat → Nat → Option Nat} {c : Nat} {n : Nat} {r : Nat} (hT : jReg shX3 sh r) {Q : Option Nat → List jH → (Nat → Nat → Int32) → (Nat → Nat → Option Nat) → Prop} (hw : wX3_word r sh V R c n Q) : JM G l MX3_word d c n [.ref r] (mk sh V R) (jSq Q) jNo := by
  refine JM.intro (by decide) rfl htr (Nat.le_of_ble_eq_true rfl) ?_
  show J G l MX3_word d c n 0 [(0, .ref r)] [] (mk sh V R) _ _
  unfold wX3_word at hw
  refine J.aload_n 0 dX3_word_0 rfl ?_
  refine uX3_38 rfl htr hT dX3_word_1 (by omega) (Nat.le_of_ble_eq_true rfl) hw ?_
  clear hw
  intro V1 hw
  obtain ⟨f9, hw⟩ := hw
  exact (rX3_word_4 htr hdd f9 _ _ _ _ _ hT hw)
theorem niX3_75 {G : jG} {l : Launch} {M : jM} {d c n pc : Nat} {lv : List (Nat × Value)} {rest : List Value} {g : List jC} {post : Option Value → List jC → Prop} {xp : String → List jC → Prop} (hM : M.1.cls = RX3) (htr : l.stackTraces = false) {h : Nat} {Q : List jC → Prop} (hd : decode M.2.1 pc = .ok (.invokespecial 75, 3)) (hdd : 3 + 1 ≤ d) (hw8 : (rest.map fun v => v.category).sum ≤ 8) (hw : wX7_init g h Q) (kk : ∀ g', Q g' → J G l M d c n (pc + 3) lv rest g' post xp) : J G l M d c n pc lv (.ref h :: rest) g post xp :=
  J.callI (M' := MX7_init) (As := []) (hcw := lw_meth q1188) (hini := q169) (hlk := by rw [hM]; exact q1186) (hin := q1187) (hret := rfl) (mX7_init htr (Nat.le_refl _) hw) hd rfl rfl ⟨by decide, by decide, by show _ = some 0; decide +kernel⟩ hw8 ⟨hdd, by decide⟩ jcc0 (fun r9 g9 h9 => by obtain ⟨rfl, h⟩ := h9; exact kk g9 h) jNo.x
abbrev MX3_wrong : jM := (yX3_wrong, cX3_wrong, 1, some (.object "VisitingHours$Wrong"), [])
-- VisitingHours$Reader.wrong()LVisitingHours$Wrong;
def wX3_wrong (r : Nat) (sh : List jH) (V : Nat → Nat → Int32) (R : Nat → Nat → Option Nat) (c : Nat) (n : Nat) (Q : Option Nat → List jH → (Nat → Nat → Int32) → (Nat → Nat → Option Nat) → Prop) : Prop :=
  (∃ c0 n0, c = c0 + 1 ∧ n = n0 + 6 ∧ (∀ q0, q0 = sh.length → (∀ sh0 : List jH, sh0 = sh ++ [jF (.inr (6, [.null, .null, .null, .null, .null, .int 0]))] → wX7_init (mk sh0 V R) q0 (fun g4 => (∃ (sh4 : List jH) (V4 : Nat → Nat → Int32) (R4 : Nat → Nat → Option Nat), g4 = mk sh4 V4 R4 ∧ (jReg shX3 sh4 r ∧ Q (some q0) sh4 V4 R4))))))
theorem mX3_wrong {G : jG} {l : Launch} {d : Nat} (htr : l.stackTraces = false) (hdd : 4 ≤ d) {sh : List jH} {V : Nat → Nat → Int32} {R : Nat → Nat → Option Nat} {c : Nat} {n : Nat} {r : Nat} (hT : jReg shX3 sh r) {Q : Option Nat → List jH → (Nat → Nat → Int32) → (Nat → Nat → Option Nat) → Prop} (hw : wX3_wrong r sh V R c n Q) : JM G l MX3_wrong d c n [.ref r] (mk sh V R) (jSq Q) jNo := by
  refine JM.intro (by decide) rfl htr (Nat.le_of_ble_eq_true rfl) ?_
  show J G l MX3_wrong d c n 0 [(0, .ref r)] [] (mk sh V R) _ _
  unfold wX3_wrong at hw
  obtain ⟨c0, n0, rfl, rfl, hw⟩ := hw
  refine J.new (C := RX7) (T0 := TX7) (N := 6) [.null, .null, .null, .null, .null, .int 0] dX3_wrong_0 (ci := 6) rfl in_X7 tyX7 tyX7_ok q1177 q1178 q169 rfl (fun _ => rfl) ?_
  rw [mk_len]
  refine J.nmr hw (fun q0 hw => ?_)
  rw [mk_pushF]
  refine J.nmsE (fun sh0 e0 => ?_)
  specialize hw sh0 e0
  replace hT := jReg.apE hT e0
  refine J.dup dX3_wrong_3 rfl ?_
  refine niX3_75 rfl htr dX3_wrong_4 (by omega) (Nat.le_of_ble_eq_true rfl) hw ?_
  clear hw
  intro g4 hw
  obtain ⟨sh4, V4, R4, rfl, hw⟩ := hw
  clear hT
  obtain ⟨hT, hw⟩ := hw
  exact J.aret rfl (Or.inl ⟨_, rfl⟩) (va_rf_nr (some q0)) dX3_wrong_7 ⟨_, _, _, rfl, _, rfl, hw⟩
theorem nrX3_59 {G : jG} {l : Launch} {M : jM} {d c n pc : Nat} {lv : List (Nat × Value)} {rest : List Value} {g : List jC} {post : Option Value → List jC → Prop} {xp : String → List jC → Prop} (hM : M.1.cls = RX3) (htr : l.stackTraces = false) {h : Nat} {a1 : Nat} {fs9 : List Value} (hk9 : g[h]? = some (.inr (17, fs9))) {Q : Int32 → Prop} (hd : decode M.2.1 pc = .ok (.invokevirtual 59, 3)) (hdd : 1 + 1 ≤ d) (hw8 : (rest.map fun v => v.category).sum ≤ 8) (hw : wJ5_equals g h a1 Q) (kk : ∀ r, Q r → J G l M d c n (pc + 3) lv (.int r :: rest) g post xp) : J G l M d c n pc lv (.ref a1 :: .ref h :: rest) g post xp :=
  J.callV (As := [.ref a1]) (hcw := by rw [hM]; exact lw_V q1323 q1264 q1265 q156 q1266) (mJ5_equals htr (Nat.le_refl _) hw) hd rfl ⟨17, _, _, hk9, rfl, rfl, fun _ => rfl⟩ ⟨rfl, by decide, by decide, by show _ = some 1; decide +kernel⟩ hw8 ⟨hdd, by decide⟩ jcc0 (fun r9 g9 h9 => by obtain ⟨rfl, r, rfl, h⟩ := h9; exact kk r h) jNo.x
abbrev MX3_passes : jM := (yX3_passes, cX3_passes, 2, some .boolean, [])
theorem uX3_56 {G : jG} {l : Launch} {M : jM} {d c n pc : Nat} {lv : List (Nat × Value)} {rest : List Value} {post : Option Value → List jC → Prop} {xp : String → List jC → Prop} (hM : M.1.cls = RX3) (htr : l.stackTraces = false) {sh : List jH} {V : Nat → Nat → Int32} {R : Nat → Nat → Option Nat} {r : Nat} (hT : jReg shX3 sh r) {c1 n1 cq nq : Nat} {Q : Option Nat → List jH → (Nat → Nat → Int32) → (Nat → Nat → Option Nat) → Prop} (hd : decode M.2.1 pc = .ok (.invokevirtual 56, 3)) (hdd : 7 + 1 ≤ d) (hw8 : (rest.map fun v => v.category).sum ≤ 8) (hw : wX3_word r sh V R c1 n1 Q) (hcc : c1 + c ≤ cq ∧ n1 + n ≤ nq) (kk : ∀ r sh' V' R', Q r sh' V' R' → J G l M d c n (pc + 3) lv (va_rf r :: rest) (mk sh' V' R') post xp) : J G l M d cq nq pc lv (.ref r :: rest) (mk sh V R) post xp := by
  exact J.callV (As := []) (hcw := by rw [hM]; exact lw_V q1322 q839 q840 q146 q841) (mX3_word htr (Nat.le_refl _) hT hw) hd rfl ⟨2, _, _, mk_at (hT.at 0 rfl), rfl, rfl, fun _ => rfl⟩ ⟨rfl, by decide, by decide, by show _ = some 0; decide +kernel⟩ hw8 ⟨hdd, by decide⟩ hcc (fun r9 g9 h9 => by obtain ⟨s9, V9, R9, rfl, r, rfl, h⟩ := h9; exact kk r s9 V9 R9 h) jNo.x
-- VisitingHours$Reader.passes(Ljava/lang/String;)Z
def wX3_passes (r : Nat) (sh : List jH) (V : Nat → Nat → Int32) (R : Nat → Nat → Option Nat) (c : Nat) (n : Nat) (a1 : Nat) (Q : Int32 → List jH → (Nat → Nat → Int32) → (Nat → Nat → Option Nat) → Prop) : Prop :=
  (∃ c11 n11 c21 n21 : Nat, c11 + c21 ≤ c ∧ n11 + n21 ≤ n ∧ (wX3_word r sh V R c11 n11 (fun r1 sh1 V1 R1 => (jReg shX3 sh1 r ∧ (∃ b5_1, r1 = some b5_1 ∧ (∃ fs5 : List Value, (mk sh1 V1 R1)[b5_1]? = some (.inr (17, fs5)) ∧ wJ5_equals (mk sh1 V1 R1) b5_1 a1 (fun r5 => ((r5 = 0 → (∀ y18 : Int32, y18 = (V1 r 4) → Q (0 : Int32) sh1 (vset V1 r 3 y18) R1)) ∧ (¬ r5 = 0 → Q (1 : Int32) sh1 V1 R1)))))))))
theorem mX3_passes {G : jG} {l : Launch} {d : Nat} (htr : l.stackTraces = false) (hdd : 8 ≤ d) {sh : List jH} {V : Nat → Nat → Int32} {R : Nat → Nat → Option Nat} {c : Nat} {n : Nat} {r : Nat} (hT : jReg shX3 sh r) {a1 : Nat} {Q : Int32 → List jH → (Nat → Nat → Int32) → (Nat → Nat → Option Nat) → Prop} (hw : wX3_passes r sh V R c n a1 Q) : JM G l MX3_passes d c n [.ref r, .ref a1] (mk sh V R) (jSr Q) jNo := by
  refine JM.intro (by decide) rfl htr (Nat.le_of_ble_eq_true rfl) ?_
  show J G l MX3_passes d c n 0 [(0, .ref r), (1, .ref a1)] [] (mk sh V R) _ _
  unfold wX3_passes at hw
  refine J.aload_n 0 dX3_passes_0 rfl ?_
  obtain ⟨c11, n11, c21, n21, hc1, hd1, hw⟩ := hw
  refine uX3_56 rfl htr hT dX3_passes_1 (by omega) (Nat.le_of_ble_eq_true rfl) hw ⟨hc1, hd1⟩ ?_
  clear hw
  intro r1 sh1 V1 R1 hw
  clear hT
  obtain ⟨hT, hw⟩ := hw
  refine J.aload_n 1 dX3_passes_4 rfl ?_
  obtain ⟨b5_1, rfl, hw⟩ := hw
  obtain ⟨fs5, hk5, hw⟩ := hw
  refine nrX3_59 rfl htr hk5 dX3_passes_5 (by omega) (Nat.le_of_ble_eq_true rfl) hw ?_
  clear hw
  intro r5 hw
  refine J.if_eq 13 dX3_passes_8 (by decide) ⟨fun c8 => ?_, fun c8 => ?_⟩
  · obtain ⟨hw, -⟩ := hw
    specialize hw c8
    refine J.aload_n 0 dX3_passes_13 rfl ?_
    refine J.aload_n 0 dX3_passes_14 rfl ?_
    refine fgX3_35 rfl hT dX3_passes_15 ?_
    refine J.nm hw (fun y18 hw => ?_)
    refine fpX3_25 rfl hT dX3_passes_18 ?_
    refine J.iconst (v := (0 : Int32)) dX3_passes_21 (by decide) ?_
    exact J.zret rfl rfl dX3_passes_22 ⟨_, _, _, rfl, _, rfl, hw⟩
  · obtain ⟨-, hw⟩ := hw
    specialize hw c8
    refine J.iconst (v := (1 : Int32)) dX3_passes_11 (by decide) ?_
    exact J.zret rfl rfl dX3_passes_12 ⟨_, _, _, rfl, _, rfl, hw⟩
abbrev MX3_figures : jM := (yX3_figures, cX3_figures, 5, some .int, [])
theorem uX3_69 {G : jG} {l : Launch} {M : jM} {d c n pc : Nat} {lv : List (Nat × Value)} {rest : List Value} {post : Option Value → List jC → Prop} {xp : String → List jC → Prop} (hM : M.1.cls = RX3) (htr : l.stackTraces = false) {sh : List jH} {V : Nat → Nat → Int32} {R : Nat → Nat → Option Nat} {r : Nat} (hT : jReg shX3 sh r) {c1 n1 cq nq : Nat} {Q : Option Nat → List jH → (Nat → Nat → Int32) → (Nat → Nat → Option Nat) → Prop} (hd : decode M.2.1 pc = .ok (.invokevirtual 69, 3)) (hdd : 4 + 1 ≤ d) (hw8 : (rest.map fun v => v.category).sum ≤ 8) (hw : wX3_wrong r sh V R c1 n1 Q) (hcc : c1 + c ≤ cq ∧ n1 + n ≤ nq) (kk : ∀ r sh' V' R', Q r sh' V' R' → J G l M d c n (pc + 3) lv (va_rf r :: rest) (mk sh' V' R') post xp) : J G l M d cq nq pc lv (.ref r :: rest) (mk sh V R) post xp := by
  exact J.callV (As := []) (hcw := by rw [hM]; exact lw_V q1299 q1174 q1175 q146 q1176) (mX3_wrong htr (Nat.le_refl _) hT hw) hd rfl ⟨2, _, _, mk_at (hT.at 0 rfl), rfl, rfl, fun _ => rfl⟩ ⟨rfl, by decide, by decide, by show _ = some 0; decide +kernel⟩ hw8 ⟨hdd, by decide⟩ hcc (fun r9 g9 h9 => by obtain ⟨s9, V9, R9, rfl, r, rfl, h⟩ := h9; exact kk r s9 V9 R9 h) jNo.x
-- VisitingHours$Reader.figures(III)I
def wX3_figures_109 (r : Nat) (a1 : Int32) (a2 : Int32) (a3 : Int32) (Q : Int32 → List jH → (Nat → Nat → Int32) → (Nat → Nat → Option Nat) → Prop) (X : String → List jH → (Nat → Nat → Int32) → (Nat → Nat → Option Nat) → Prop) (sh : List jH) (V : Nat → Nat → Int32) (R : Nat → Nat → Option Nat) (c : Nat) (n : Nat) : Prop :=
  (∃ c1110 n1110 c2110 n2110 : Nat, c1110 + c2110 ≤ c ∧ n1110 + n2110 ≤ n ∧ (wX3_wrong r sh V R c1110 n1110 (fun r110 sh110 V110 R110 => (jReg shX3 sh110 r ∧ (∃ b113_1, r110 = some b113_1 ∧ (∃ fs113 : List Value, (mk sh110 V110 R110)[b113_1]? = some (.inr (6, fs113)) ∧ jn ≤ b113_1 ∧ X "VisitingHours$Wrong" sh110 V110 R110))))))
theorem rX3_figures_109 {G : jG} {l : Launch} {d : Nat} (htr : l.stackTraces = false) (hdd : 5 ≤ d) {r : Nat} {a1 : Int32} {a2 : Int32} {a3 : Int32} {Q : Int32 → List jH → (Nat → Nat → Int32) → (Nat → Nat → Option Nat) → Prop} {X : String → List jH → (Nat → Nat → Int32) → (Nat → Nat → Option Nat) → Prop} {sh : List jH} {V : Nat → Nat → Int32} {R : Nat → Nat → Option Nat} {c : Nat} {n : Nat} (hT : jReg shX3 sh r) (hw : wX3_figures_109 r a1 a2 a3 Q X sh V R c n) : J G l MX3_figures d c n 109 [(0, .ref r)] [] (mk sh V R) (jSr Q) (jSx X) := by
  unfold wX3_figures_109 at hw
  refine J.aload_n 0 dX3_figures_109 rfl ?_
  obtain ⟨c1110, n1110, c2110, n2110, hc110, hd110, hw⟩ := hw
  refine uX3_69 rfl htr hT dX3_figures_110 (by omega) (Nat.le_of_ble_eq_true rfl) hw ⟨hc110, hd110⟩ ?_
  clear hw
  intro r110 sh110 V110 R110 hw
  clear hT
  obtain ⟨hT, hw⟩ := hw
  obtain ⟨b113_1, rfl, hw⟩ := hw
  obtain ⟨fs113, hk113, hn113, hw⟩ := hw
  exact J.athrow dX3_figures_113 hn113 hk113 rfl rfl (JX.out (by rfl) ⟨_, _, _, rfl, hw⟩)
def wX3_figures_60 (r : Nat) (a1 : Int32) (a2 : Int32) (a3 : Int32) (Q : Int32 → List jH → (Nat → Nat → Int32) → (Nat → Nat → Option Nat) → Prop) (X : String → List jH → (Nat → Nat → Int32) → (Nat → Nat → Option Nat) → Prop) (K7 : List jH → (Nat → Nat → Int32) → (Nat → Nat → Option Nat) → Nat → Nat → Int32 → Prop) (sh : List jH) (V : Nat → Nat → Int32) (R : Nat → Nat → Option Nat) (c : Nat) (n : Nat) (s0 : Int32) : Prop :=
  (∀ y69 : Int32, y69 = ((V r 3) + (1 : Int32)) → K7 sh (vset V r 3 y69) R c n s0)
theorem rX3_figures_60 {G : jG} {l : Launch} {d : Nat} (htr : l.stackTraces = false) (hdd : 5 ≤ d) {r : Nat} {a1 : Int32} {a2 : Int32} {a3 : Int32} {Q : Int32 → List jH → (Nat → Nat → Int32) → (Nat → Nat → Option Nat) → Prop} {X : String → List jH → (Nat → Nat → Int32) → (Nat → Nat → Option Nat) → Prop} {K7 : List jH → (Nat → Nat → Int32) → (Nat → Nat → Option Nat) → Nat → Nat → Int32 → Prop} (hK7 : ∀ (sh : List jH) (V : Nat → Nat → Int32) (R : Nat → Nat → Option Nat) (c : Nat) (n : Nat) (x4 : Int32) (hT : jReg shX3 sh r), K7 sh V R c n x4 → J G l MX3_figures d c n 7 [(0, .ref r), (1, .int a1), (2, .int a2), (3, .int a3), (4, .int x4)] [] (mk sh V R) (jSr Q) (jSx X)) {sh : List jH} {V : Nat → Nat → Int32} {R : Nat → Nat → Option Nat} {c : Nat} {n : Nat} {s0 : Int32} (hT : jReg shX3 sh r) (hw : wX3_figures_60 r a1 a2 a3 Q X K7 sh V R c n s0) : J G l MX3_figures d c n 60 [(0, .ref r), (1, .int a1), (2, .int a2), (3, .int a3)] [.int s0] (mk sh V R) (jSr Q) (jSx X) := by
  unfold wX3_figures_60 at hw
  refine J.istore (lv' := [(4, .int s0), (0, .ref r), (1, .int a1), (2, .int a2), (3, .int a3)]) dX3_figures_60 (by decide) rfl ?_
  refine J.aload_n 1 dX3_figures_62 rfl ?_
  refine J.dup dX3_figures_63 rfl ?_
  refine fgX3_25 rfl hT dX3_figures_64 ?_
  refine J.iconst (v := (1 : Int32)) dX3_figures_67 (by decide) ?_
  refine J.iadd dX3_figures_68 ?_
  refine J.nm hw (fun y69 hw => ?_)
  refine fpX3_25 rfl hT dX3_figures_69 ?_
  refine J.goto 7 dX3_figures_72 (by decide) ?_
  exact J.pick [1, 2, 3, 4, 0] rfl (hK7 _ _ _ _ _ _ hT hw)
def wX3_figures_7 (r : Nat) (a1 : Int32) (a2 : Int32) (a3 : Int32) (Q : Int32 → List jH → (Nat → Nat → Int32) → (Nat → Nat → Option Nat) → Prop) (X : String → List jH → (Nat → Nat → Int32) → (Nat → Nat → Option Nat) → Prop) : Nat → List jH → (Nat → Nat → Int32) → (Nat → Nat → Option Nat) → Nat → Nat → Int32 → Prop
  | 0, _, _, _, _, _, _ => False
  | f + 1, sh, V, R, c, n, x4 =>
    (wX3_byteAt r V (V r 3) (fun r12 => (wX1_in r12 (48 : Int32) (57 : Int32) (fun r19 => ((r19 = 0 → (((V r 3) = (V r 4) → wX3_figures_109 r a1 a2 a3 Q X sh V R c n) ∧ (¬ (V r 3) = (V r 4) → ((a3 < ((V r 3) - (V r 4)) → wX3_figures_109 r a1 a2 a3 Q X sh V R c n) ∧ (¬ a3 < ((V r 3) - (V r 4)) → (wX1_in x4 a1 a2 (fun r103 => ((¬ r103 = 0 → Q x4 sh V R) ∧ (r103 = 0 → wX3_figures_109 r a1 a2 a3 Q X sh V R c n))))))))) ∧ (¬ r19 = 0 → ((a3 ≤ ((V r 3) - (V r 4)) → wX3_figures_60 r a1 a2 a3 Q X (fun sh V R c n x4 => wX3_figures_7 r a1 a2 a3 Q X f sh V R c n x4) sh V R c n x4) ∧ (¬ a3 ≤ ((V r 3) - (V r 4)) → (wX3_byteAt r V (V r 3) (fun r48 => wX3_figures_60 r a1 a2 a3 Q X (fun sh V R c n x4 => wX3_figures_7 r a1 a2 a3 Q X f sh V R c n x4) sh V R c n ((((10 : Int32) * x4) + r48) - (48 : Int32))))))))))))
theorem rX3_figures_7 {G : jG} {l : Launch} {d : Nat} (htr : l.stackTraces = false) (hdd : 5 ≤ d) {r : Nat} {a1 : Int32} {a2 : Int32} {a3 : Int32} {Q : Int32 → List jH → (Nat → Nat → Int32) → (Nat → Nat → Option Nat) → Prop} {X : String → List jH → (Nat → Nat → Int32) → (Nat → Nat → Option Nat) → Prop} : ∀ (f : Nat) (sh : List jH) (V : Nat → Nat → Int32) (R : Nat → Nat → Option Nat) (c : Nat) (n : Nat) (x4 : Int32) (hT : jReg shX3 sh r), wX3_figures_7 r a1 a2 a3 Q X f sh V R c n x4 → J G l MX3_figures d c n 7 [(0, .ref r), (1, .int a1), (2, .int a2), (3, .int a3), (4, .int x4)] [] (mk sh V R) (jSr Q) (jSx X) := by
  intro f
  induction f with
  | zero =>
    intro sh V R c n x4 hT hw
    rw [wX3_figures_7] at hw
    exact hw.elim
  | succ f ih =>
    intro sh V R c n x4 hT hw
    rw [wX3_figures_7] at hw
    refine J.aload_n 0 dX3_figures_7 rfl ?_
    refine J.aload_n 0 dX3_figures_8 rfl ?_
    refine fgX3_25 rfl hT dX3_figures_9 ?_
    refine uX3_31 rfl htr hT dX3_figures_12 (by omega) (Nat.le_of_ble_eq_true rfl) hw ?_
    clear hw
    intro r12 hw
    refine J.bipush (v := (48 : Int32)) dX3_figures_15 (by decide) ?_
    refine J.bipush (v := (57 : Int32)) dX3_figures_17 (by decide) ?_
    refine uX3_41 rfl htr dX3_figures_19 (by omega) (Nat.le_of_ble_eq_true rfl) hw ?_
    clear hw
    intro r19 hw
    refine J.if_eq 75 dX3_figures_22 (by decide) ⟨fun c22 => ?_, fun c22 => ?_⟩
    · obtain ⟨hw, -⟩ := hw
      specialize hw c22
      refine J.aload_n 0 dX3_figures_75 rfl ?_
      refine fgX3_25 rfl hT dX3_figures_76 ?_
      refine J.aload_n 0 dX3_figures_79 rfl ?_
      refine fgX3_35 rfl hT dX3_figures_80 ?_
      refine J.icmp_eq 109 dX3_figures_83 (by decide) ⟨fun c83 => ?_, fun c83 => ?_⟩
      · obtain ⟨hw, -⟩ := hw
        specialize hw c83
        exact J.pick [0] rfl (rX3_figures_109 htr hdd hT hw)
      · obtain ⟨-, hw⟩ := hw
        specialize hw c83
        refine J.aload_n 0 dX3_figures_86 rfl ?_
        refine fgX3_25 rfl hT dX3_figures_87 ?_
        refine J.aload_n 0 dX3_figures_90 rfl ?_
        refine fgX3_35 rfl hT dX3_figures_91 ?_
        refine J.isub dX3_figures_94 ?_
        refine J.iload_n 3 dX3_figures_95 rfl ?_
        refine J.icmp_gt 109 dX3_figures_96 (by decide) ⟨fun c96 => ?_, fun c96 => ?_⟩
        · obtain ⟨hw, -⟩ := hw
          specialize hw c96
          exact J.pick [0] rfl (rX3_figures_109 htr hdd hT hw)
        · obtain ⟨-, hw⟩ := hw
          specialize hw c96
          refine J.iload 4 dX3_figures_99 rfl ?_
          refine J.iload_n 1 dX3_figures_101 rfl ?_
          refine J.iload_n 2 dX3_figures_102 rfl ?_
          refine uX3_41 rfl htr dX3_figures_103 (by omega) (Nat.le_of_ble_eq_true rfl) hw ?_
          clear hw
          intro r103 hw
          refine J.if_ne 114 dX3_figures_106 (by decide) ⟨fun c106 => ?_, fun c106 => ?_⟩
          · obtain ⟨hw, -⟩ := hw
            specialize hw c106
            refine J.iload 4 dX3_figures_114 rfl ?_
            exact J.iret rfl dX3_figures_116 ⟨_, _, _, rfl, _, rfl, hw⟩
          · obtain ⟨-, hw⟩ := hw
            specialize hw c106
            exact J.pick [0] rfl (rX3_figures_109 htr hdd hT hw)
    · obtain ⟨-, hw⟩ := hw
      specialize hw c22
      refine J.aload_n 0 dX3_figures_25 rfl ?_
      refine fgX3_25 rfl hT dX3_figures_26 ?_
      refine J.aload_n 0 dX3_figures_29 rfl ?_
      refine fgX3_35 rfl hT dX3_figures_30 ?_
      refine J.isub dX3_figures_33 ?_
      refine J.iload_n 3 dX3_figures_34 rfl ?_
      refine J.icmp_ge 58 dX3_figures_35 (by decide) ⟨fun c35 => ?_, fun c35 => ?_⟩
      · obtain ⟨hw, -⟩ := hw
        specialize hw c35
        refine J.iload 4 dX3_figures_58 rfl ?_
        exact J.pick [0, 1, 2, 3] rfl (rX3_figures_60 htr hdd ih hT hw)
      · obtain ⟨-, hw⟩ := hw
        specialize hw c35
        refine J.bipush (v := (10 : Int32)) dX3_figures_38 (by decide) ?_
        refine J.iload 4 dX3_figures_40 rfl ?_
        refine J.imul dX3_figures_42 ?_
        refine J.aload_n 0 dX3_figures_43 rfl ?_
        refine J.aload_n 0 dX3_figures_44 rfl ?_
        refine fgX3_25 rfl hT dX3_figures_45 ?_
        refine uX3_31 rfl htr hT dX3_figures_48 (by omega) (Nat.le_of_ble_eq_true rfl) hw ?_
        clear hw
        intro r48 hw
        refine J.iadd dX3_figures_51 ?_
        refine J.bipush (v := (48 : Int32)) dX3_figures_52 (by decide) ?_
        refine J.isub dX3_figures_54 ?_
        refine J.goto 60 dX3_figures_55 (by decide) ?_
        exact J.pick [0, 1, 2, 3] rfl (rX3_figures_60 htr hdd ih hT hw)
def wX3_figures (r : Nat) (sh : List jH) (V : Nat → Nat → Int32) (R : Nat → Nat → Option Nat) (c : Nat) (n : Nat) (a1 : Int32) (a2 : Int32) (a3 : Int32) (Q : Int32 → List jH → (Nat → Nat → Int32) → (Nat → Nat → Option Nat) → Prop) (X : String → List jH → (Nat → Nat → Int32) → (Nat → Nat → Option Nat) → Prop) : Prop :=
  (wX3_blanks r V (fun V1 => (∃ f9, wX3_figures_7 r a1 a2 a3 Q X f9 sh V1 R c n (0 : Int32))))
theorem mX3_figures {G : jG} {l : Launch} {d : Nat} (htr : l.stackTraces = false) (hdd : 5 ≤ d) {sh : List jH} {V : Nat → Nat → Int32} {R : Nat → Nat → Option Nat} {c : Nat} {n : Nat} {r : Nat} (hT : jReg shX3 sh r) {a1 : Int32} {a2 : Int32} {a3 : Int32} {Q : Int32 → List jH → (Nat → Nat → Int32) → (Nat → Nat → Option Nat) → Prop} {X : String → List jH → (Nat → Nat → Int32) → (Nat → Nat → Option Nat) → Prop} (hw : wX3_figures r sh V R c n a1 a2 a3 Q X) : JM G l MX3_figures d c n [.ref r, .int a1, .int a2, .int a3] (mk sh V R) (jSr Q) (jSx X) := by
  refine JM.intro (by decide) rfl htr (Nat.le_of_ble_eq_true rfl) ?_
  show J G l MX3_figures d c n 0 [(0, .ref r), (1, .int a1), (2, .int a2), (3, .int a3)] [] (mk sh V R) _ _
  unfold wX3_figures at hw
  refine J.aload_n 0 dX3_figures_0 rfl ?_
  refine uX3_38 rfl htr hT dX3_figures_1 (by omega) (Nat.le_of_ble_eq_true rfl) hw ?_
  clear hw
  intro V1 hw
  refine J.iconst (v := (0 : Int32)) dX3_figures_4 (by decide) ?_
  refine J.istore (lv' := [(4, .int (0 : Int32)), (0, .ref r), (1, .int a1), (2, .int a2), (3, .int a3)]) dX3_figures_5 (by decide) rfl ?_
  obtain ⟨f9, hw⟩ := hw
  exact J.pick [1, 2, 3, 4, 0] rfl (rX3_figures_7 htr hdd f9 _ _ _ _ _ _ hT hw)
abbrev MX3_number : jM := (yX3_number, cX3_number, 3, some .int, [])
theorem uX3_65 {G : jG} {l : Launch} {M : jM} {d c n pc : Nat} {lv : List (Nat × Value)} {rest : List Value} {post : Option Value → List jC → Prop} {xp : String → List jC → Prop} (hM : M.1.cls = RX3) (htr : l.stackTraces = false) {sh : List jH} {V : Nat → Nat → Int32} {R : Nat → Nat → Option Nat} {r : Nat} (hT : jReg shX3 sh r) {a1 : Int32} {a2 : Int32} {a3 : Int32} {c1 n1 cq nq : Nat} {Q : Int32 → List jH → (Nat → Nat → Int32) → (Nat → Nat → Option Nat) → Prop} {X : String → List jH → (Nat → Nat → Int32) → (Nat → Nat → Option Nat) → Prop} (hd : decode M.2.1 pc = .ok (.invokevirtual 65, 3)) (hdd : 5 + 1 ≤ d) (hw8 : (rest.map fun v => v.category).sum ≤ 8) (hw : wX3_figures r sh V R c1 n1 a1 a2 a3 Q X) (hcc : c1 + c ≤ cq ∧ n1 + n ≤ nq) (kk : ∀ r sh' V' R', Q r sh' V' R' → J G l M d c n (pc + 3) lv (.int r :: rest) (mk sh' V' R') post xp) (kx : ∀ E sh' V' R', X E sh' V' R' → JX G l M d c n pc lv E (mk sh' V' R') post xp) : J G l M d cq nq pc lv (.int a3 :: .int a2 :: .int a1 :: .ref r :: rest) (mk sh V R) post xp := by
  exact J.callV (As := [.int a1, .int a2, .int a3]) (hcw := by rw [hM]; exact lw_V q1295 q1296 q1297 q146 q1298) (mX3_figures htr (Nat.le_refl _) hT hw) hd rfl ⟨2, _, _, mk_at (hT.at 0 rfl), rfl, rfl, fun _ => rfl⟩ ⟨rfl, by decide, by decide, by show _ = some 3; decide +kernel⟩ hw8 ⟨hdd, by decide⟩ hcc (fun r9 g9 h9 => by obtain ⟨s9, V9, R9, rfl, r, rfl, h⟩ := h9; exact kk r s9 V9 R9 h) (fun E9 g9 h9 => by obtain ⟨s9, V9, R9, rfl, h⟩ := h9; exact kx E9 s9 V9 R9 h)
-- VisitingHours$Reader.number(II)I
def wX3_number (r : Nat) (sh : List jH) (V : Nat → Nat → Int32) (R : Nat → Nat → Option Nat) (c : Nat) (n : Nat) (a1 : Int32) (a2 : Int32) (Q : Int32 → List jH → (Nat → Nat → Int32) → (Nat → Nat → Option Nat) → Prop) (X : String → List jH → (Nat → Nat → Int32) → (Nat → Nat → Option Nat) → Prop) : Prop :=
  (∃ c14 n14 c24 n24 : Nat, c14 + c24 ≤ c ∧ n14 + n24 ≤ n ∧ (wX3_figures r sh V R c14 n14 a1 a2 (3 : Int32) (fun r4 sh4 V4 R4 => (jReg shX3 sh4 r ∧ Q r4 sh4 V4 R4)) (fun E9 shx Vx Rx => X E9 shx Vx Rx)))
theorem mX3_number {G : jG} {l : Launch} {d : Nat} (htr : l.stackTraces = false) (hdd : 6 ≤ d) {sh : List jH} {V : Nat → Nat → Int32} {R : Nat → Nat → Option Nat} {c : Nat} {n : Nat} {r : Nat} (hT : jReg shX3 sh r) {a1 : Int32} {a2 : Int32} {Q : Int32 → List jH → (Nat → Nat → Int32) → (Nat → Nat → Option Nat) → Prop} {X : String → List jH → (Nat → Nat → Int32) → (Nat → Nat → Option Nat) → Prop} (hw : wX3_number r sh V R c n a1 a2 Q X) : JM G l MX3_number d c n [.ref r, .int a1, .int a2] (mk sh V R) (jSr Q) (jSx X) := by
  refine JM.intro (by decide) rfl htr (Nat.le_of_ble_eq_true rfl) ?_
  show J G l MX3_number d c n 0 [(0, .ref r), (1, .int a1), (2, .int a2)] [] (mk sh V R) _ _
  unfold wX3_number at hw
  refine J.aload_n 0 dX3_number_0 rfl ?_
  refine J.iload_n 1 dX3_number_1 rfl ?_
  refine J.iload_n 2 dX3_number_2 rfl ?_
  refine J.iconst (v := (3 : Int32)) dX3_number_3 (by decide) ?_
  obtain ⟨c14, n14, c24, n24, hc4, hd4, hw⟩ := hw
  refine uX3_65 rfl htr hT dX3_number_4 (by omega) (Nat.le_of_ble_eq_true rfl) hw ⟨hc4, hd4⟩ ?_ ?_
  rotate_left
  · exact fun E9 shx Vx Rx h9 => JX.out (by rfl) ⟨_, _, _, rfl, h9⟩
  clear hw
  intro r4 sh4 V4 R4 hw
  clear hT
  obtain ⟨hT, hw⟩ := hw
  exact J.iret rfl dX3_number_7 ⟨_, _, _, rfl, _, rfl, hw⟩
theorem fgX3_28 {G : jG} {l : Launch} {M : jM} {d c n pc : Nat} {lv : List (Nat × Value)} {st : List Value} {sh : List jH} {V : Nat → Nat → Int32} {R : Nat → Nat → Option Nat} {post : Option Value → List jC → Prop} {xp : String → List jC → Prop} {r : Nat} (hM : M.1.cls = RX3) (hT : jReg shX3 sh r) (hd : decode M.2.1 pc = .ok (.getfield 28, 3)) (kk : J G l M d c n (pc + 3) lv (.int (V r 6) :: st) (mk sh V R) post xp) : J G l M d c n pc lv (.ref r :: st) (mk sh V R) post xp := JV.getf (C := RX3) (T0 := TX3) (N := 7) 6 hd hT.1 (hT.at 0 rfl) rfl in_X3 (by decide) (by rw [hM]; exact q314) rfl rfl kk
theorem fpX3_28 {G : jG} {l : Launch} {M : jM} {d c n pc : Nat} {lv : List (Nat × Value)} {st : List Value} {sh : List jH} {V : Nat → Nat → Int32} {R : Nat → Nat → Option Nat} {post : Option Value → List jC → Prop} {xp : String → List jC → Prop} {r : Nat} (hM : M.1.cls = RX3) (hT : jReg shX3 sh r) {x9 : Int32} (hd : decode M.2.1 pc = .ok (.putfield 28, 3)) (kk : J G l M d c n (pc + 3) lv st (mk sh (vset V r 6 x9) R) post xp) : J G l M d c n pc lv (.int x9 :: .ref r :: st) (mk sh V R) post xp := JV.puti (C := RX3) (T0 := TX3) (N := 7) (o := 0) 6 hd hT.1 (hT.at 0 rfl) rfl in_X3 tyX3 tyX3_ok nmX3 (by decide) (by rw [hM]; exact q314) rfl rfl (ji_put x9) rfl kk
abbrev MX3_goesDeeper : jM := (yX3_goesDeeper, cX3_goesDeeper, 1, none, [])
-- VisitingHours$Reader.goesDeeper()V
def wX3_goesDeeper (r : Nat) (sh : List jH) (V : Nat → Nat → Int32) (R : Nat → Nat → Option Nat) (c : Nat) (n : Nat) (Q : List jH → (Nat → Nat → Int32) → (Nat → Nat → Option Nat) → Prop) (X : String → List jH → (Nat → Nat → Int32) → (Nat → Nat → Option Nat) → Prop) : Prop :=
  ((¬ (V r 6) = (6 : Int32) → (∀ y21 : Int32, y21 = ((V r 6) + (1 : Int32)) → Q sh (vset V r 6 y21) R)) ∧ ((V r 6) = (6 : Int32) → (∃ c110 n110 c210 n210 : Nat, c110 + c210 ≤ c ∧ n110 + n210 ≤ n ∧ (wX3_wrong r sh V R c110 n110 (fun r10 sh10 V10 R10 => (jReg shX3 sh10 r ∧ (∃ b13_1, r10 = some b13_1 ∧ (∃ fs13 : List Value, (mk sh10 V10 R10)[b13_1]? = some (.inr (6, fs13)) ∧ jn ≤ b13_1 ∧ X "VisitingHours$Wrong" sh10 V10 R10))))))))
theorem mX3_goesDeeper {G : jG} {l : Launch} {d : Nat} (htr : l.stackTraces = false) (hdd : 5 ≤ d) {sh : List jH} {V : Nat → Nat → Int32} {R : Nat → Nat → Option Nat} {c : Nat} {n : Nat} {r : Nat} (hT : jReg shX3 sh r) {Q : List jH → (Nat → Nat → Int32) → (Nat → Nat → Option Nat) → Prop} {X : String → List jH → (Nat → Nat → Int32) → (Nat → Nat → Option Nat) → Prop} (hw : wX3_goesDeeper r sh V R c n Q X) : JM G l MX3_goesDeeper d c n [.ref r] (mk sh V R) (jSv Q) (jSx X) := by
  refine JM.intro (by decide) rfl htr (Nat.le_of_ble_eq_true rfl) ?_
  show J G l MX3_goesDeeper d c n 0 [(0, .ref r)] [] (mk sh V R) _ _
  unfold wX3_goesDeeper at hw
  refine J.aload_n 0 dX3_goesDeeper_0 rfl ?_
  refine fgX3_28 rfl hT dX3_goesDeeper_1 ?_
  refine J.bipush (v := (6 : Int32)) dX3_goesDeeper_4 (by decide) ?_
  refine J.icmp_ne 14 dX3_goesDeeper_6 (by decide) ⟨fun c6 => ?_, fun c6 => ?_⟩
  · obtain ⟨hw, -⟩ := hw
    specialize hw c6
    refine J.aload_n 0 dX3_goesDeeper_14 rfl ?_
    refine J.dup dX3_goesDeeper_15 rfl ?_
    refine fgX3_28 rfl hT dX3_goesDeeper_16 ?_
    refine J.iconst (v := (1 : Int32)) dX3_goesDeeper_19 (by decide) ?_
    refine J.iadd dX3_goesDeeper_20 ?_
    refine J.nm hw (fun y21 hw => ?_)
    refine fpX3_28 rfl hT dX3_goesDeeper_21 ?_
    exact J.vret rfl dX3_goesDeeper_24 ⟨_, _, _, rfl, rfl, hw⟩
  · obtain ⟨-, hw⟩ := hw
    specialize hw c6
    refine J.aload_n 0 dX3_goesDeeper_9 rfl ?_
    obtain ⟨c110, n110, c210, n210, hc10, hd10, hw⟩ := hw
    refine uX3_69 rfl htr hT dX3_goesDeeper_10 (by omega) (Nat.le_of_ble_eq_true rfl) hw ⟨hc10, hd10⟩ ?_
    clear hw
    intro r10 sh10 V10 R10 hw
    clear hT
    obtain ⟨hT, hw⟩ := hw
    obtain ⟨b13_1, rfl, hw⟩ := hw
    obtain ⟨fs13, hk13, hn13, hw⟩ := hw
    exact J.athrow dX3_goesDeeper_13 hn13 hk13 rfl rfl (JX.out (by rfl) ⟨_, _, _, rfl, hw⟩)
theorem fgX1_25 {G : jG} {l : Launch} {M : jM} {d c n pc : Nat} {lv : List (Nat × Value)} {st : List Value} {sh : List jH} {V : Nat → Nat → Int32} {R : Nat → Nat → Option Nat} {post : Option Value → List jC → Prop} {xp : String → List jC → Prop} {x : Nat} (hM : M.1.cls = RX1) (hT : jReg shX1 sh x) (hd : decode M.2.1 pc = .ok (.getfield 25, 3)) (kk : J G l M d c n (pc + 3) lv (.ref (x + 109) :: st) (mk sh V R) post xp) : J G l M d c n pc lv (.ref x :: st) (mk sh V R) post xp := JV.getf (C := RX1) (T0 := TX1) (N := 16) 4 hd hT.1 (hT.at 0 rfl) rfl in_X1 (by decide) (by rw [hM]; exact q437) rfl rfl kk
theorem nrX1_90 {G : jG} {l : Launch} {M : jM} {d c n pc : Nat} {lv : List (Nat × Value)} {rest : List Value} {g : List jC} {post : Option Value → List jC → Prop} {xp : String → List jC → Prop} (hM : M.1.cls = RX1) (htr : l.stackTraces = false) {h : Nat} {a1 : Nat} {fs9 : List Value} (hk9 : g[h]? = some (.inr (17, fs9))) {Q : Int32 → Prop} (hd : decode M.2.1 pc = .ok (.invokevirtual 90, 3)) (hdd : 1 + 1 ≤ d) (hw8 : (rest.map fun v => v.category).sum ≤ 8) (hw : wJ5_equals g h a1 Q) (kk : ∀ r, Q r → J G l M d c n (pc + 3) lv (.int r :: rest) g post xp) : J G l M d c n pc lv (.ref a1 :: .ref h :: rest) g post xp :=
  J.callV (As := [.ref a1]) (hcw := by rw [hM]; exact lw_V q1263 q1264 q1265 q156 q1266) (mJ5_equals htr (Nat.le_refl _) hw) hd rfl ⟨17, _, _, hk9, rfl, rfl, fun _ => rfl⟩ ⟨rfl, by decide, by decide, by show _ = some 1; decide +kernel⟩ hw8 ⟨hdd, by decide⟩ jcc0 (fun r9 g9 h9 => by obtain ⟨rfl, r, rfl, h⟩ := h9; exact kk r h) jNo.x
abbrev MX1_needs : jM := (yX1_needs, cX1_needs, 2, none, [])
theorem uX1_86 {G : jG} {l : Launch} {M : jM} {d c n pc : Nat} {lv : List (Nat × Value)} {rest : List Value} {post : Option Value → List jC → Prop} {xp : String → List jC → Prop} (hM : M.1.cls = RX1) (htr : l.stackTraces = false) {sh : List jH} {V : Nat → Nat → Int32} {R : Nat → Nat → Option Nat} {r : Nat} (hT : jReg shX3 sh r) {c1 n1 cq nq : Nat} {Q : Option Nat → List jH → (Nat → Nat → Int32) → (Nat → Nat → Option Nat) → Prop} (hd : decode M.2.1 pc = .ok (.invokevirtual 86, 3)) (hdd : 7 + 1 ≤ d) (hw8 : (rest.map fun v => v.category).sum ≤ 8) (hw : wX3_word r sh V R c1 n1 Q) (hcc : c1 + c ≤ cq ∧ n1 + n ≤ nq) (kk : ∀ r sh' V' R', Q r sh' V' R' → J G l M d c n (pc + 3) lv (va_rf r :: rest) (mk sh' V' R') post xp) : J G l M d cq nq pc lv (.ref r :: rest) (mk sh V R) post xp := by
  exact J.callV (As := []) (hcw := by rw [hM]; exact lw_V q838 q839 q840 q146 q841) (mX3_word htr (Nat.le_refl _) hT hw) hd rfl ⟨2, _, _, mk_at (hT.at 0 rfl), rfl, rfl, fun _ => rfl⟩ ⟨rfl, by decide, by decide, by show _ = some 0; decide +kernel⟩ hw8 ⟨hdd, by decide⟩ hcc (fun r9 g9 h9 => by obtain ⟨s9, V9, R9, rfl, r, rfl, h⟩ := h9; exact kk r s9 V9 R9 h) jNo.x
theorem uX1_96 {G : jG} {l : Launch} {M : jM} {d c n pc : Nat} {lv : List (Nat × Value)} {rest : List Value} {post : Option Value → List jC → Prop} {xp : String → List jC → Prop} (hM : M.1.cls = RX1) (htr : l.stackTraces = false) {sh : List jH} {V : Nat → Nat → Int32} {R : Nat → Nat → Option Nat} {r : Nat} (hT : jReg shX3 sh r) {c1 n1 cq nq : Nat} {Q : Option Nat → List jH → (Nat → Nat → Int32) → (Nat → Nat → Option Nat) → Prop} (hd : decode M.2.1 pc = .ok (.invokevirtual 96, 3)) (hdd : 4 + 1 ≤ d) (hw8 : (rest.map fun v => v.category).sum ≤ 8) (hw : wX3_wrong r sh V R c1 n1 Q) (hcc : c1 + c ≤ cq ∧ n1 + n ≤ nq) (kk : ∀ r sh' V' R', Q r sh' V' R' → J G l M d c n (pc + 3) lv (va_rf r :: rest) (mk sh' V' R') post xp) : J G l M d cq nq pc lv (.ref r :: rest) (mk sh V R) post xp := by
  exact J.callV (As := []) (hcw := by rw [hM]; exact lw_V q1173 q1174 q1175 q146 q1176) (mX3_wrong htr (Nat.le_refl _) hT hw) hd rfl ⟨2, _, _, mk_at (hT.at 0 rfl), rfl, rfl, fun _ => rfl⟩ ⟨rfl, by decide, by decide, by show _ = some 0; decide +kernel⟩ hw8 ⟨hdd, by decide⟩ hcc (fun r9 g9 h9 => by obtain ⟨s9, V9, R9, rfl, r, rfl, h⟩ := h9; exact kk r s9 V9 R9 h) jNo.x
-- VisitingHours.needs(Ljava/lang/String;)V
def wX1_needs (x : Nat) (sh : List jH) (V : Nat → Nat → Int32) (R : Nat → Nat → Option Nat) (c : Nat) (n : Nat) (a1 : Nat) (Q : List jH → (Nat → Nat → Int32) → (Nat → Nat → Option Nat) → Prop) (X : String → List jH → (Nat → Nat → Int32) → (Nat → Nat → Option Nat) → Prop) : Prop :=
  (∃ c14 n14 c24 n24 : Nat, c14 + c24 ≤ c ∧ n14 + n24 ≤ n ∧ (wX3_word (x + 109) sh V R c14 n14 (fun r4 sh4 V4 R4 => (jReg shX1 sh4 x ∧ (∃ b8_1, r4 = some b8_1 ∧ (∃ fs8 : List Value, (mk sh4 V4 R4)[b8_1]? = some (.inr (17, fs8)) ∧ wJ5_equals (mk sh4 V4 R4) b8_1 a1 (fun r8 => ((¬ r8 = 0 → Q sh4 V4 R4) ∧ (r8 = 0 → (∃ c118 n118 c218 n218 : Nat, c118 + c218 ≤ c24 ∧ n118 + n218 ≤ n24 ∧ (wX3_wrong (x + 109) sh4 V4 R4 c118 n118 (fun r18 sh18 V18 R18 => (jReg shX1 sh18 x ∧ (∃ b21_2, r18 = some b21_2 ∧ (∃ fs21 : List Value, (mk sh18 V18 R18)[b21_2]? = some (.inr (6, fs21)) ∧ jn ≤ b21_2 ∧ X "VisitingHours$Wrong" sh18 V18 R18)))))))))))))))
theorem mX1_needs {G : jG} {l : Launch} {d : Nat} (htr : l.stackTraces = false) (hdd : 8 ≤ d) {sh : List jH} {V : Nat → Nat → Int32} {R : Nat → Nat → Option Nat} {c : Nat} {n : Nat} {x : Nat} (hT : jReg shX1 sh x) {a1 : Nat} {Q : List jH → (Nat → Nat → Int32) → (Nat → Nat → Option Nat) → Prop} {X : String → List jH → (Nat → Nat → Int32) → (Nat → Nat → Option Nat) → Prop} (hw : wX1_needs x sh V R c n a1 Q X) : JM G l MX1_needs d c n [.ref x, .ref a1] (mk sh V R) (jSv Q) (jSx X) := by
  refine JM.intro (by decide) rfl htr (Nat.le_of_ble_eq_true rfl) ?_
  show J G l MX1_needs d c n 0 [(0, .ref x), (1, .ref a1)] [] (mk sh V R) _ _
  unfold wX1_needs at hw
  refine J.aload_n 0 dX1_needs_0 rfl ?_
  refine fgX1_25 rfl hT dX1_needs_1 ?_
  obtain ⟨c14, n14, c24, n24, hc4, hd4, hw⟩ := hw
  refine uX1_86 rfl htr (hT.sub 109 2 rfl) dX1_needs_4 (by omega) (Nat.le_of_ble_eq_true rfl) hw ⟨hc4, hd4⟩ ?_
  clear hw
  intro r4 sh4 V4 R4 hw
  clear hT
  obtain ⟨hT, hw⟩ := hw
  refine J.aload_n 1 dX1_needs_7 rfl ?_
  obtain ⟨b8_1, rfl, hw⟩ := hw
  obtain ⟨fs8, hk8, hw⟩ := hw
  refine nrX1_90 rfl htr hk8 dX1_needs_8 (by omega) (Nat.le_of_ble_eq_true rfl) hw ?_
  clear hw
  intro r8 hw
  refine J.if_ne 22 dX1_needs_11 (by decide) ⟨fun c11 => ?_, fun c11 => ?_⟩
  · obtain ⟨hw, -⟩ := hw
    specialize hw c11
    exact J.vret rfl dX1_needs_22 ⟨_, _, _, rfl, rfl, hw⟩
  · obtain ⟨-, hw⟩ := hw
    specialize hw c11
    refine J.aload_n 0 dX1_needs_14 rfl ?_
    refine fgX1_25 rfl hT dX1_needs_15 ?_
    obtain ⟨c118, n118, c218, n218, hc18, hd18, hw⟩ := hw
    refine uX1_96 rfl htr (hT.sub 109 2 rfl) dX1_needs_18 (by omega) (Nat.le_of_ble_eq_true rfl) hw ⟨hc18, hd18⟩ ?_
    clear hw
    intro r18 sh18 V18 R18 hw
    clear hT
    obtain ⟨hT, hw⟩ := hw
    obtain ⟨b21_2, rfl, hw⟩ := hw
    obtain ⟨fs21, hk21, hn21, hw⟩ := hw
    exact J.athrow dX1_needs_21 hn21 hk21 rfl rfl (JX.out (by rfl) ⟨_, _, _, rfl, hw⟩)
abbrev MX1_after : jM := (yX1_after, cX1_after, 4, some .int, [])
theorem uX1_100 {G : jG} {l : Launch} {M : jM} {d c n pc : Nat} {lv : List (Nat × Value)} {rest : List Value} {post : Option Value → List jC → Prop} {xp : String → List jC → Prop} (hM : M.1.cls = RX1) (htr : l.stackTraces = false) {sh : List jH} {V : Nat → Nat → Int32} {R : Nat → Nat → Option Nat} {x : Nat} (hT : jReg shX1 sh x) {a1 : Nat} {c1 n1 cq nq : Nat} {Q : List jH → (Nat → Nat → Int32) → (Nat → Nat → Option Nat) → Prop} {X : String → List jH → (Nat → Nat → Int32) → (Nat → Nat → Option Nat) → Prop} (hd : decode M.2.1 pc = .ok (.invokevirtual 100, 3)) (hdd : 8 + 1 ≤ d) (hw8 : (rest.map fun v => v.category).sum ≤ 8) (hw : wX1_needs x sh V R c1 n1 a1 Q X) (hcc : c1 + c ≤ cq ∧ n1 + n ≤ nq) (kk : ∀ sh' V' R', Q sh' V' R' → J G l M d c n (pc + 3) lv rest (mk sh' V' R') post xp) (kx : ∀ E sh' V' R', X E sh' V' R' → JX G l M d c n pc lv E (mk sh' V' R') post xp) : J G l M d cq nq pc lv (.ref a1 :: .ref x :: rest) (mk sh V R) post xp := by
  exact J.callV (As := [.ref a1]) (hcw := by rw [hM]; exact lw_V q1287 q1289 qs25 q144 q1290) (mX1_needs htr (Nat.le_refl _) hT hw) hd rfl ⟨0, _, _, mk_at (hT.at 0 rfl), rfl, rfl, fun _ => rfl⟩ ⟨rfl, by decide, by decide, by show _ = some 1; decide +kernel⟩ hw8 ⟨hdd, by decide⟩ hcc (fun r9 g9 h9 => by obtain ⟨s9, V9, R9, rfl, rfl, h⟩ := h9; exact kk s9 V9 R9 h) (fun E9 g9 h9 => by obtain ⟨s9, V9, R9, rfl, h⟩ := h9; exact kx E9 s9 V9 R9 h)
theorem uX1_104 {G : jG} {l : Launch} {M : jM} {d c n pc : Nat} {lv : List (Nat × Value)} {rest : List Value} {post : Option Value → List jC → Prop} {xp : String → List jC → Prop} (hM : M.1.cls = RX1) (htr : l.stackTraces = false) {sh : List jH} {V : Nat → Nat → Int32} {R : Nat → Nat → Option Nat} {r : Nat} (hT : jReg shX3 sh r) {a1 : Int32} {a2 : Int32} {c1 n1 cq nq : Nat} {Q : Int32 → List jH → (Nat → Nat → Int32) → (Nat → Nat → Option Nat) → Prop} {X : String → List jH → (Nat → Nat → Int32) → (Nat → Nat → Option Nat) → Prop} (hd : decode M.2.1 pc = .ok (.invokevirtual 104, 3)) (hdd : 6 + 1 ≤ d) (hw8 : (rest.map fun v => v.category).sum ≤ 8) (hw : wX3_number r sh V R c1 n1 a1 a2 Q X) (hcc : c1 + c ≤ cq ∧ n1 + n ≤ nq) (kk : ∀ r sh' V' R', Q r sh' V' R' → J G l M d c n (pc + 3) lv (.int r :: rest) (mk sh' V' R') post xp) (kx : ∀ E sh' V' R', X E sh' V' R' → JX G l M d c n pc lv E (mk sh' V' R') post xp) : J G l M d cq nq pc lv (.int a2 :: .int a1 :: .ref r :: rest) (mk sh V R) post xp := by
  exact J.callV (As := [.int a1, .int a2]) (hcw := by rw [hM]; exact lw_V q1291 q1292 q1293 q146 q1294) (mX3_number htr (Nat.le_refl _) hT hw) hd rfl ⟨2, _, _, mk_at (hT.at 0 rfl), rfl, rfl, fun _ => rfl⟩ ⟨rfl, by decide, by decide, by show _ = some 2; decide +kernel⟩ hw8 ⟨hdd, by decide⟩ hcc (fun r9 g9 h9 => by obtain ⟨s9, V9, R9, rfl, r, rfl, h⟩ := h9; exact kk r s9 V9 R9 h) (fun E9 g9 h9 => by obtain ⟨s9, V9, R9, rfl, h⟩ := h9; exact kx E9 s9 V9 R9 h)
-- VisitingHours.after(Ljava/lang/String;II)I
def wX1_after (x : Nat) (sh : List jH) (V : Nat → Nat → Int32) (R : Nat → Nat → Option Nat) (c : Nat) (n : Nat) (a1 : Nat) (a2 : Int32) (a3 : Int32) (Q : Int32 → List jH → (Nat → Nat → Int32) → (Nat → Nat → Option Nat) → Prop) (X : String → List jH → (Nat → Nat → Int32) → (Nat → Nat → Option Nat) → Prop) : Prop :=
  (∃ c12 n12 c22 n22 : Nat, c12 + c22 ≤ c ∧ n12 + n22 ≤ n ∧ (wX1_needs x sh V R c12 n12 a1 (fun sh2 V2 R2 => (jReg shX1 sh2 x ∧ (∃ c111 n111 c211 n211 : Nat, c111 + c211 ≤ c22 ∧ n111 + n211 ≤ n22 ∧ (wX3_number (x + 109) sh2 V2 R2 c111 n111 a2 a3 (fun r11 sh11 V11 R11 => (jReg shX1 sh11 x ∧ Q r11 sh11 V11 R11)) (fun E9 shx Vx Rx => X E9 shx Vx Rx))))) (fun E9 shx Vx Rx => X E9 shx Vx Rx)))
theorem mX1_after {G : jG} {l : Launch} {d : Nat} (htr : l.stackTraces = false) (hdd : 9 ≤ d) {sh : List jH} {V : Nat → Nat → Int32} {R : Nat → Nat → Option Nat} {c : Nat} {n : Nat} {x : Nat} (hT : jReg shX1 sh x) {a1 : Nat} {a2 : Int32} {a3 : Int32} {Q : Int32 → List jH → (Nat → Nat → Int32) → (Nat → Nat → Option Nat) → Prop} {X : String → List jH → (Nat → Nat → Int32) → (Nat → Nat → Option Nat) → Prop} (hw : wX1_after x sh V R c n a1 a2 a3 Q X) : JM G l MX1_after d c n [.ref x, .ref a1, .int a2, .int a3] (mk sh V R) (jSr Q) (jSx X) := by
  refine JM.intro (by decide) rfl htr (Nat.le_of_ble_eq_true rfl) ?_
  show J G l MX1_after d c n 0 [(0, .ref x), (1, .ref a1), (2, .int a2), (3, .int a3)] [] (mk sh V R) _ _
  unfold wX1_after at hw
  refine J.aload_n 0 dX1_after_0 rfl ?_
  refine J.aload_n 1 dX1_after_1 rfl ?_
  obtain ⟨c12, n12, c22, n22, hc2, hd2, hw⟩ := hw
  refine uX1_100 rfl htr hT dX1_after_2 (by omega) (Nat.le_of_ble_eq_true rfl) hw ⟨hc2, hd2⟩ ?_ ?_
  rotate_left
  · exact fun E9 shx Vx Rx h9 => JX.out (by rfl) ⟨_, _, _, rfl, h9⟩
  clear hw
  intro sh2 V2 R2 hw
  clear hT
  obtain ⟨hT, hw⟩ := hw
  refine J.aload_n 0 dX1_after_5 rfl ?_
  refine fgX1_25 rfl hT dX1_after_6 ?_
  refine J.iload_n 2 dX1_after_9 rfl ?_
  refine J.iload_n 3 dX1_after_10 rfl ?_
  obtain ⟨c111, n111, c211, n211, hc11, hd11, hw⟩ := hw
  refine uX1_104 rfl htr (hT.sub 109 2 rfl) dX1_after_11 (by omega) (Nat.le_of_ble_eq_true rfl) hw ⟨hc11, hd11⟩ ?_ ?_
  rotate_left
  · exact fun E9 shx Vx Rx h9 => JX.out (by rfl) ⟨_, _, _, rfl, h9⟩
  clear hw
  intro r11 sh11 V11 R11 hw
  clear hT
  obtain ⟨hT, hw⟩ := hw
  exact J.iret rfl dX1_after_14 ⟨_, _, _, rfl, _, rfl, hw⟩
abbrev MX1_hoursTold : jM := (yX1_hoursTold, cX1_hoursTold, 3, some .int, [])
theorem uX1_110 {G : jG} {l : Launch} {M : jM} {d c n pc : Nat} {lv : List (Nat × Value)} {rest : List Value} {post : Option Value → List jC → Prop} {xp : String → List jC → Prop} (hM : M.1.cls = RX1) (htr : l.stackTraces = false) {sh : List jH} {V : Nat → Nat → Int32} {R : Nat → Nat → Option Nat} {x : Nat} (hT : jReg shX1 sh x) {a1 : Nat} {a2 : Int32} {a3 : Int32} {c1 n1 cq nq : Nat} {Q : Int32 → List jH → (Nat → Nat → Int32) → (Nat → Nat → Option Nat) → Prop} {X : String → List jH → (Nat → Nat → Int32) → (Nat → Nat → Option Nat) → Prop} (hd : decode M.2.1 pc = .ok (.invokevirtual 110, 3)) (hdd : 9 + 1 ≤ d) (hw8 : (rest.map fun v => v.category).sum ≤ 8) (hw : wX1_after x sh V R c1 n1 a1 a2 a3 Q X) (hcc : c1 + c ≤ cq ∧ n1 + n ≤ nq) (kk : ∀ r sh' V' R', Q r sh' V' R' → J G l M d c n (pc + 3) lv (.int r :: rest) (mk sh' V' R') post xp) (kx : ∀ E sh' V' R', X E sh' V' R' → JX G l M d c n pc lv E (mk sh' V' R') post xp) : J G l M d cq nq pc lv (.int a3 :: .int a2 :: .ref a1 :: .ref x :: rest) (mk sh V R) post xp := by
  exact J.callV (As := [.ref a1, .int a2, .int a3]) (hcw := by rw [hM]; exact lw_V q1283 q1285 qs24 q144 q1286) (mX1_after htr (Nat.le_refl _) hT hw) hd rfl ⟨0, _, _, mk_at (hT.at 0 rfl), rfl, rfl, fun _ => rfl⟩ ⟨rfl, by decide, by decide, by show _ = some 3; decide +kernel⟩ hw8 ⟨hdd, by decide⟩ hcc (fun r9 g9 h9 => by obtain ⟨s9, V9, R9, rfl, r, rfl, h⟩ := h9; exact kk r s9 V9 R9 h) (fun E9 g9 h9 => by obtain ⟨s9, V9, R9, rfl, h⟩ := h9; exact kx E9 s9 V9 R9 h)
-- VisitingHours.hoursTold()I
def wX1_hoursTold (x : Nat) (sh : List jH) (V : Nat → Nat → Int32) (R : Nat → Nat → Option Nat) (c : Nat) (n : Nat) (Q : Int32 → List jH → (Nat → Nat → Int32) → (Nat → Nat → Option Nat) → Prop) (X : String → List jH → (Nat → Nat → Int32) → (Nat → Nat → Option Nat) → Prop) : Prop :=
  (∃ c16 n16 c26 n26 : Nat, c16 + c26 ≤ c ∧ n16 + n26 ≤ n ∧ (wX1_after x sh V R c16 n16 18 (0 : Int32) (7 : Int32) (fun r6 sh6 V6 R6 => (jReg shX1 sh6 x ∧ (∃ c116 n116 c216 n216 : Nat, c116 + c216 ≤ c26 ∧ n116 + n216 ≤ n26 ∧ (wX1_after x sh6 V6 R6 c116 n116 20 r6 (7 : Int32) (fun r16 sh16 V16 R16 => (jReg shX1 sh16 x ∧ Q (((1 : Int32) <<< ((r16 + (1 : Int32)) &&& 31)) - ((1 : Int32) <<< (r6 &&& 31))) sh16 V16 R16)) (fun E9 shx Vx Rx => X E9 shx Vx Rx))))) (fun E9 shx Vx Rx => X E9 shx Vx Rx)))
theorem mX1_hoursTold {G : jG} {l : Launch} {d : Nat} (htr : l.stackTraces = false) (hdd : 10 ≤ d) {sh : List jH} {V : Nat → Nat → Int32} {R : Nat → Nat → Option Nat} {c : Nat} {n : Nat} {x : Nat} (hT : jReg shX1 sh x) {Q : Int32 → List jH → (Nat → Nat → Int32) → (Nat → Nat → Option Nat) → Prop} {X : String → List jH → (Nat → Nat → Int32) → (Nat → Nat → Option Nat) → Prop} (hw : wX1_hoursTold x sh V R c n Q X) : JM G l MX1_hoursTold d c n [.ref x] (mk sh V R) (jSr Q) (jSx X) := by
  refine JM.intro (by decide) rfl htr (Nat.le_of_ble_eq_true rfl) ?_
  show J G l MX1_hoursTold d c n 0 [(0, .ref x)] [] (mk sh V R) _ _
  unfold wX1_hoursTold at hw
  refine J.aload_n 0 dX1_hoursTold_0 rfl ?_
  refine J.ldcS dX1_hoursTold_1 jl_1304 (by decide) ?_
  refine J.iconst (v := (0 : Int32)) dX1_hoursTold_3 (by decide) ?_
  refine J.bipush (v := (7 : Int32)) dX1_hoursTold_4 (by decide) ?_
  obtain ⟨c16, n16, c26, n26, hc6, hd6, hw⟩ := hw
  refine uX1_110 rfl htr hT dX1_hoursTold_6 (by omega) (Nat.le_of_ble_eq_true rfl) hw ⟨hc6, hd6⟩ ?_ ?_
  rotate_left
  · exact fun E9 shx Vx Rx h9 => JX.out (by rfl) ⟨_, _, _, rfl, h9⟩
  clear hw
  intro r6 sh6 V6 R6 hw
  clear hT
  obtain ⟨hT, hw⟩ := hw
  refine J.istore_n (lv' := [(1, .int r6), (0, .ref x)]) dX1_hoursTold_9 (by decide) rfl ?_
  refine J.aload_n 1 dX1_hoursTold_10 rfl ?_
  refine J.ldcS dX1_hoursTold_11 jl_1305 (by decide) ?_
  refine J.iload_n 0 dX1_hoursTold_13 rfl ?_
  refine J.bipush (v := (7 : Int32)) dX1_hoursTold_14 (by decide) ?_
  obtain ⟨c116, n116, c216, n216, hc16, hd16, hw⟩ := hw
  refine uX1_110 rfl htr hT dX1_hoursTold_16 (by omega) (Nat.le_of_ble_eq_true rfl) hw ⟨hc16, hd16⟩ ?_ ?_
  rotate_left
  · exact fun E9 shx Vx Rx h9 => JX.out (by rfl) ⟨_, _, _, rfl, h9⟩
  clear hw
  intro r16 sh16 V16 R16 hw
  clear hT
  obtain ⟨hT, hw⟩ := hw
  refine J.istore_n (lv' := [(2, .int r16), (1, .int r6), (0, .ref x)]) dX1_hoursTold_19 (by decide) rfl ?_
  refine J.iconst (v := (1 : Int32)) dX1_hoursTold_20 (by decide) ?_
  refine J.iload_n 0 dX1_hoursTold_21 rfl ?_
  refine J.iconst (v := (1 : Int32)) dX1_hoursTold_22 (by decide) ?_
  refine J.iadd dX1_hoursTold_23 ?_
  refine J.ishl dX1_hoursTold_24 ?_
  refine J.iconst (v := (1 : Int32)) dX1_hoursTold_25 (by decide) ?_
  refine J.iload_n 1 dX1_hoursTold_26 rfl ?_
  refine J.ishl dX1_hoursTold_27 ?_
  refine J.isub dX1_hoursTold_28 ?_
  exact J.iret rfl dX1_hoursTold_29 ⟨_, _, _, rfl, _, rfl, hw⟩
theorem nrX1_116 {G : jG} {l : Launch} {M : jM} {d c n pc : Nat} {lv : List (Nat × Value)} {rest : List Value} {g : List jC} {post : Option Value → List jC → Prop} {xp : String → List jC → Prop} (hM : M.1.cls = RX1) (htr : l.stackTraces = false) {h : Nat} {fs9 : List Value} (hk9 : g[h]? = some (.inr (17, fs9))) {Q : Int32 → Prop} (hd : decode M.2.1 pc = .ok (.invokevirtual 116, 3)) (hdd : 1 + 1 ≤ d) (hw8 : (rest.map fun v => v.category).sum ≤ 8) (hw : wJ5_length g h Q) (kk : ∀ r, Q r → J G l M d c n (pc + 3) lv (.int r :: rest) g post xp) : J G l M d c n pc lv (.ref h :: rest) g post xp :=
  J.callV (As := []) (hcw := by rw [hM]; exact lw_V q1328 q1098 q1099 q156 q1100) (mJ5_length htr (Nat.le_refl _) hw) hd rfl ⟨17, _, _, hk9, rfl, rfl, fun _ => rfl⟩ ⟨rfl, by decide, by decide, by show _ = some 0; decide +kernel⟩ hw8 ⟨hdd, by decide⟩ jcc0 (fun r9 g9 h9 => by obtain ⟨rfl, r, rfl, h⟩ := h9; exact kk r h) jNo.x
theorem nrX1_120 {G : jG} {l : Launch} {M : jM} {d c n pc : Nat} {lv : List (Nat × Value)} {rest : List Value} {g : List jC} {post : Option Value → List jC → Prop} {xp : String → List jC → Prop} (hM : M.1.cls = RX1) (htr : l.stackTraces = false) {h : Nat} {a1 : Int32} {fs9 : List Value} (hk9 : g[h]? = some (.inr (17, fs9))) {Q : Int32 → Prop} (hd : decode M.2.1 pc = .ok (.invokevirtual 120, 3)) (hdd : 3 + 1 ≤ d) (hw8 : (rest.map fun v => v.category).sum ≤ 8) (hw : wJ5_charAt g h a1 Q) (kk : ∀ r, Q r → J G l M d c n (pc + 3) lv (.int r :: rest) g post xp) : J G l M d c n pc lv (.int a1 :: .ref h :: rest) g post xp :=
  J.callV (As := [.int a1]) (hcw := by rw [hM]; exact lw_V q1329 q1330 q1331 q156 q1332) (mJ5_charAt htr (Nat.le_refl _) hw) hd rfl ⟨17, _, _, hk9, rfl, rfl, fun _ => rfl⟩ ⟨rfl, by decide, by decide, by show _ = some 1; decide +kernel⟩ hw8 ⟨hdd, by decide⟩ jcc0 (fun r9 g9 h9 => by obtain ⟨rfl, r, rfl, h⟩ := h9; exact kk r h) jNo.x
abbrev MX1_marksTold : jM := (yX1_marksTold, cX1_marksTold, 5, some .int, [])
theorem uX1_124 {G : jG} {l : Launch} {M : jM} {d c n pc : Nat} {lv : List (Nat × Value)} {rest : List Value} {post : Option Value → List jC → Prop} {xp : String → List jC → Prop} (hM : M.1.cls = RX1) (htr : l.stackTraces = false) {sh : List jH} {V : Nat → Nat → Int32} {R : Nat → Nat → Option Nat} {a1 : Int32} {a2 : Int32} {a3 : Int32} {Q : Int32 → Prop} (hd : decode M.2.1 pc = .ok (.invokestatic 124, 3)) (hdd : 0 + 1 ≤ d) (hw8 : (rest.map fun v => v.category).sum ≤ 8) (hw : wX1_in a1 a2 a3 Q) (kk : ∀ r, Q r → J G l M d c n (pc + 3) lv (.int r :: rest) (mk sh V R) post xp) : J G l M d c n pc lv (.int a3 :: .int a2 :: .int a1 :: rest) (mk sh V R) post xp := by
  exact J.callS (As := [.int a1, .int a2, .int a3]) (hcw := by rw [hM]; exact lw_S q1340 q843 q144 q844) (mX1_in htr hw) hd rfl ⟨by decide, by decide, by show _ = some 3; decide +kernel⟩ hw8 ⟨hdd, by decide⟩ jcc0 (fun r9 g9 h9 => by obtain ⟨rfl, r, rfl, h⟩ := h9; exact kk r h) jNo.x
theorem uX1_128 {G : jG} {l : Launch} {M : jM} {d c n pc : Nat} {lv : List (Nat × Value)} {rest : List Value} {post : Option Value → List jC → Prop} {xp : String → List jC → Prop} (hM : M.1.cls = RX1) (htr : l.stackTraces = false) {sh : List jH} {V : Nat → Nat → Int32} {R : Nat → Nat → Option Nat} {a1 : Int32} {a2 : Int32} {Q : Int32 → Prop} (hd : decode M.2.1 pc = .ok (.invokestatic 128, 3)) (hdd : 0 + 1 ≤ d) (hw8 : (rest.map fun v => v.category).sum ≤ 8) (hw : wX1_has a1 a2 Q) (kk : ∀ r, Q r → J G l M d c n (pc + 3) lv (.int r :: rest) (mk sh V R) post xp) : J G l M d c n pc lv (.int a2 :: .int a1 :: rest) (mk sh V R) post xp := by
  exact J.callS (As := [.int a1, .int a2]) (hcw := by rw [hM]; exact lw_S q639 q515 q144 q516) (mX1_has htr hw) hd rfl ⟨by decide, by decide, by show _ = some 2; decide +kernel⟩ hw8 ⟨hdd, by decide⟩ jcc0 (fun r9 g9 h9 => by obtain ⟨rfl, r, rfl, h⟩ := h9; exact kk r h) jNo.x
-- VisitingHours.marksTold()I
def wX1_marksTold_49 (x : Nat) (Q : Int32 → List jH → (Nat → Nat → Int32) → (Nat → Nat → Option Nat) → Prop) (X : String → List jH → (Nat → Nat → Int32) → (Nat → Nat → Option Nat) → Prop) (sh : List jH) (V : Nat → Nat → Int32) (R : Nat → Nat → Option Nat) (c : Nat) (n : Nat) : Prop :=
  (∃ c153 n153 c253 n253 : Nat, c153 + c253 ≤ c ∧ n153 + n253 ≤ n ∧ (wX3_wrong (x + 109) sh V R c153 n153 (fun r53 sh53 V53 R53 => (jReg shX1 sh53 x ∧ (∃ b56_3, r53 = some b56_3 ∧ (∃ fs56 : List Value, (mk sh53 V53 R53)[b56_3]? = some (.inr (6, fs56)) ∧ jn ≤ b56_3 ∧ X "VisitingHours$Wrong" sh53 V53 R53))))))
theorem rX1_marksTold_49 {G : jG} {l : Launch} {d : Nat} (htr : l.stackTraces = false) (hdd : 8 ≤ d) {x : Nat} {Q : Int32 → List jH → (Nat → Nat → Int32) → (Nat → Nat → Option Nat) → Prop} {X : String → List jH → (Nat → Nat → Int32) → (Nat → Nat → Option Nat) → Prop} {sh : List jH} {V : Nat → Nat → Int32} {R : Nat → Nat → Option Nat} {c : Nat} {n : Nat} (hT : jReg shX1 sh x) (hw : wX1_marksTold_49 x Q X sh V R c n) : J G l MX1_marksTold d c n 49 [(0, .ref x)] [] (mk sh V R) (jSr Q) (jSx X) := by
  unfold wX1_marksTold_49 at hw
  refine J.aload_n 0 dX1_marksTold_49 rfl ?_
  refine fgX1_25 rfl hT dX1_marksTold_50 ?_
  obtain ⟨c153, n153, c253, n253, hc53, hd53, hw⟩ := hw
  refine uX1_96 rfl htr (hT.sub 109 2 rfl) dX1_marksTold_53 (by omega) (Nat.le_of_ble_eq_true rfl) hw ⟨hc53, hd53⟩ ?_
  clear hw
  intro r53 sh53 V53 R53 hw
  clear hT
  obtain ⟨hT, hw⟩ := hw
  obtain ⟨b56_3, rfl, hw⟩ := hw
  obtain ⟨fs56, hk56, hn56, hw⟩ := hw
  exact J.athrow dX1_marksTold_56 hn56 hk56 rfl rfl (JX.out (by rfl) ⟨_, _, _, rfl, hw⟩)
def wX1_marksTold_12 (x : Nat) (Q : Int32 → List jH → (Nat → Nat → Int32) → (Nat → Nat → Option Nat) → Prop) (X : String → List jH → (Nat → Nat → Int32) → (Nat → Nat → Option Nat) → Prop) : Nat → List jH → (Nat → Nat → Int32) → (Nat → Nat → Option Nat) → Nat → Nat → Option Nat → Int32 → Int32 → Prop
  | 0, _, _, _, _, _, _, _, _ => False
  | f + 1, sh, V, R, c, n, x1, x2, x3 =>
    (∃ b14_1, x1 = some b14_1 ∧ (∃ fs14 : List Value, (mk sh V R)[b14_1]? = some (.inr (17, fs14)) ∧ wJ5_length (mk sh V R) b14_1 (fun r14 => ((r14 ≤ x3 → ((¬ x2 = 0 → Q x2 sh V R) ∧ (x2 = 0 → (∃ c178 n178 c278 n278 : Nat, c178 + c278 ≤ c ∧ n178 + n278 ≤ n ∧ (wX3_wrong (x + 109) sh V R c178 n178 (fun r78 sh78 V78 R78 => (jReg shX1 sh78 x ∧ (∃ b81_2, r78 = some b81_2 ∧ (∃ fs81 : List Value, (mk sh78 V78 R78)[b81_2]? = some (.inr (6, fs81)) ∧ jn ≤ b81_2 ∧ X "VisitingHours$Wrong" sh78 V78 R78))))))))) ∧ (¬ r14 ≤ x3 → (∃ fs22 : List Value, (mk sh V R)[b14_1]? = some (.inr (17, fs22)) ∧ wJ5_charAt (mk sh V R) b14_1 x3 (fun r22 => (∀ y28 : Int32, y28 = (r22 - (97 : Int32)) → (wX1_in y28 (0 : Int32) (5 : Int32) (fun r34 => ((r34 = 0 → wX1_marksTold_49 x Q X sh V R c n) ∧ (¬ r34 = 0 → (wX1_has x2 y28 (fun r43 => ((r43 = 0 → (∀ y63 : Int32, y63 = (x2 ||| ((1 : Int32) <<< (y28 &&& 31))) → (∀ y64 : Int32, y64 = x3 + (1 : Int32) → wX1_marksTold_12 x Q X f sh V R c n (some b14_1) y63 y64))) ∧ (¬ r43 = 0 → wX1_marksTold_49 x Q X sh V R c n))))))))))))))))
theorem rX1_marksTold_12 {G : jG} {l : Launch} {d : Nat} (htr : l.stackTraces = false) (hdd : 8 ≤ d) {x : Nat} {Q : Int32 → List jH → (Nat → Nat → Int32) → (Nat → Nat → Option Nat) → Prop} {X : String → List jH → (Nat → Nat → Int32) → (Nat → Nat → Option Nat) → Prop} : ∀ (f : Nat) (sh : List jH) (V : Nat → Nat → Int32) (R : Nat → Nat → Option Nat) (c : Nat) (n : Nat) (x1 : Option Nat) (x2 : Int32) (x3 : Int32) (hT : jReg shX1 sh x), wX1_marksTold_12 x Q X f sh V R c n x1 x2 x3 → J G l MX1_marksTold d c n 12 [(0, .ref x), (1, va_rf x1), (2, .int x2), (3, .int x3)] [] (mk sh V R) (jSr Q) (jSx X) := by
  intro f
  induction f with
  | zero =>
    intro sh V R c n x1 x2 x3 hT hw
    rw [wX1_marksTold_12] at hw
    exact hw.elim
  | succ f ih =>
    intro sh V R c n x1 x2 x3 hT hw
    rw [wX1_marksTold_12] at hw
    refine J.iload_n 3 dX1_marksTold_12 rfl ?_
    refine J.aloadQ_n 1 dX1_marksTold_13 rfl ?_
    obtain ⟨b14_1, rfl, hw⟩ := hw
    obtain ⟨fs14, hk14, hw⟩ := hw
    refine nrX1_116 rfl htr hk14 dX1_marksTold_14 (by omega) (Nat.le_of_ble_eq_true rfl) hw ?_
    clear hw
    intro r14 hw
    refine J.icmp_ge 70 dX1_marksTold_17 (by decide) ⟨fun c17 => ?_, fun c17 => ?_⟩
    · obtain ⟨hw, -⟩ := hw
      specialize hw c17
      refine J.iload_n 2 dX1_marksTold_70 rfl ?_
      refine J.if_ne 82 dX1_marksTold_71 (by decide) ⟨fun c71 => ?_, fun c71 => ?_⟩
      · obtain ⟨hw, -⟩ := hw
        specialize hw c71
        refine J.iload_n 2 dX1_marksTold_82 rfl ?_
        exact J.iret rfl dX1_marksTold_83 ⟨_, _, _, rfl, _, rfl, hw⟩
      · obtain ⟨-, hw⟩ := hw
        specialize hw c71
        refine J.aload_n 0 dX1_marksTold_74 rfl ?_
        refine fgX1_25 rfl hT dX1_marksTold_75 ?_
        obtain ⟨c178, n178, c278, n278, hc78, hd78, hw⟩ := hw
        refine uX1_96 rfl htr (hT.sub 109 2 rfl) dX1_marksTold_78 (by omega) (Nat.le_of_ble_eq_true rfl) hw ⟨hc78, hd78⟩ ?_
        clear hw
        intro r78 sh78 V78 R78 hw
        clear hT
        obtain ⟨hT, hw⟩ := hw
        obtain ⟨b81_2, rfl, hw⟩ := hw
        obtain ⟨fs81, hk81, hn81, hw⟩ := hw
        exact J.athrow dX1_marksTold_81 hn81 hk81 rfl rfl (JX.out (by rfl) ⟨_, _, _, rfl, hw⟩)
    · obtain ⟨-, hw⟩ := hw
      specialize hw c17
      refine J.aload_n 1 dX1_marksTold_20 rfl ?_
      refine J.iload_n 3 dX1_marksTold_21 rfl ?_
      obtain ⟨fs22, hk22, hw⟩ := hw
      refine nrX1_120 rfl htr hk22 dX1_marksTold_22 (by omega) (Nat.le_of_ble_eq_true rfl) hw ?_
      clear hw
      intro r22 hw
      refine J.bipush (v := (97 : Int32)) dX1_marksTold_25 (by decide) ?_
      refine J.isub dX1_marksTold_27 ?_
      refine J.nm hw (fun y28 hw => ?_)
      refine J.istore (lv' := [(4, .int y28), (0, .ref x), (1, .ref b14_1), (2, .int x2), (3, .int x3)]) dX1_marksTold_28 (by decide) rfl ?_
      refine J.iload 0 dX1_marksTold_30 rfl ?_
      refine J.iconst (v := (0 : Int32)) dX1_marksTold_32 (by decide) ?_
      refine J.iconst (v := (5 : Int32)) dX1_marksTold_33 (by decide) ?_
      refine uX1_124 rfl htr dX1_marksTold_34 (by omega) (Nat.le_of_ble_eq_true rfl) hw ?_
      clear hw
      intro r34 hw
      refine J.if_eq 49 dX1_marksTold_37 (by decide) ⟨fun c37 => ?_, fun c37 => ?_⟩
      · obtain ⟨hw, -⟩ := hw
        specialize hw c37
        exact J.pick [1] rfl (rX1_marksTold_49 htr hdd hT hw)
      · obtain ⟨-, hw⟩ := hw
        specialize hw c37
        refine J.iload_n 3 dX1_marksTold_40 rfl ?_
        refine J.iload 0 dX1_marksTold_41 rfl ?_
        refine uX1_128 rfl htr dX1_marksTold_43 (by omega) (Nat.le_of_ble_eq_true rfl) hw ?_
        clear hw
        intro r43 hw
        refine J.if_eq 57 dX1_marksTold_46 (by decide) ⟨fun c46 => ?_, fun c46 => ?_⟩
        · obtain ⟨hw, -⟩ := hw
          specialize hw c46
          refine J.iload_n 3 dX1_marksTold_57 rfl ?_
          refine J.iconst (v := (1 : Int32)) dX1_marksTold_58 (by decide) ?_
          refine J.iload 0 dX1_marksTold_59 rfl ?_
          refine J.ishl dX1_marksTold_61 ?_
          refine J.ior dX1_marksTold_62 ?_
          refine J.nm hw (fun y63 hw => ?_)
          refine J.istore_n (lv' := [(2, .int y63), (4, .int y28), (0, .ref x), (1, .ref b14_1), (3, .int x3)]) dX1_marksTold_63 (by decide) rfl ?_
          refine J.iincN 4 (K := (1 : Int32)) (lv' := fun y64 => [(3, .int y64), (2, .int y63), (4, .int y28), (0, .ref x), (1, .ref b14_1)]) dX1_marksTold_64 rfl (by decide) (by decide) (fun _ => rfl) hw (fun y64 hw => ?_)
          refine J.goto 12 dX1_marksTold_67 (by decide) ?_
          exact J.pick [3, 4, 1, 0] rfl (ih _ _ _ _ _ _ _ _ hT hw)
        · obtain ⟨-, hw⟩ := hw
          specialize hw c46
          exact J.pick [1] rfl (rX1_marksTold_49 htr hdd hT hw)
def wX1_marksTold (x : Nat) (sh : List jH) (V : Nat → Nat → Int32) (R : Nat → Nat → Option Nat) (c : Nat) (n : Nat) (Q : Int32 → List jH → (Nat → Nat → Int32) → (Nat → Nat → Option Nat) → Prop) (X : String → List jH → (Nat → Nat → Int32) → (Nat → Nat → Option Nat) → Prop) : Prop :=
  (∃ c14 n14 c24 n24 : Nat, c14 + c24 ≤ c ∧ n14 + n24 ≤ n ∧ (wX3_word (x + 109) sh V R c14 n14 (fun r4 sh4 V4 R4 => (jReg shX1 sh4 x ∧ (∃ f9, wX1_marksTold_12 x Q X f9 sh4 V4 R4 c24 n24 r4 (0 : Int32) (0 : Int32))))))
theorem mX1_marksTold {G : jG} {l : Launch} {d : Nat} (htr : l.stackTraces = false) (hdd : 8 ≤ d) {sh : List jH} {V : Nat → Nat → Int32} {R : Nat → Nat → Option Nat} {c : Nat} {n : Nat} {x : Nat} (hT : jReg shX1 sh x) {Q : Int32 → List jH → (Nat → Nat → Int32) → (Nat → Nat → Option Nat) → Prop} {X : String → List jH → (Nat → Nat → Int32) → (Nat → Nat → Option Nat) → Prop} (hw : wX1_marksTold x sh V R c n Q X) : JM G l MX1_marksTold d c n [.ref x] (mk sh V R) (jSr Q) (jSx X) := by
  refine JM.intro (by decide) rfl htr (Nat.le_of_ble_eq_true rfl) ?_
  show J G l MX1_marksTold d c n 0 [(0, .ref x)] [] (mk sh V R) _ _
  unfold wX1_marksTold at hw
  refine J.aload_n 0 dX1_marksTold_0 rfl ?_
  refine fgX1_25 rfl hT dX1_marksTold_1 ?_
  obtain ⟨c14, n14, c24, n24, hc4, hd4, hw⟩ := hw
  refine uX1_86 rfl htr (hT.sub 109 2 rfl) dX1_marksTold_4 (by omega) (Nat.le_of_ble_eq_true rfl) hw ⟨hc4, hd4⟩ ?_
  clear hw
  intro r4 sh4 V4 R4 hw
  clear hT
  obtain ⟨hT, hw⟩ := hw
  refine J.astoreQ_n (lv' := [(1, va_rf r4), (0, .ref x)]) dX1_marksTold_7 (by decide) rfl ?_
  refine J.iconst (v := (0 : Int32)) dX1_marksTold_8 (by decide) ?_
  refine J.istore_n (lv' := [(2, .int (0 : Int32)), (1, va_rf r4), (0, .ref x)]) dX1_marksTold_9 (by decide) (by unfold jst1; simp only [List.filter_cons, List.filter_nil, va_rf_cat]; rfl) ?_
  refine J.iconst (v := (0 : Int32)) dX1_marksTold_10 (by decide) ?_
  refine J.istore_n (lv' := [(3, .int (0 : Int32)), (2, .int (0 : Int32)), (1, va_rf r4), (0, .ref x)]) dX1_marksTold_11 (by decide) rfl ?_
  obtain ⟨f9, hw⟩ := hw
  exact J.pick [3, 2, 1, 0] rfl (rX1_marksTold_12 htr hdd f9 _ _ _ _ _ _ _ _ hT hw)
theorem fgX1_132 {G : jG} {l : Launch} {M : jM} {d c n pc : Nat} {lv : List (Nat × Value)} {st : List Value} {sh : List jH} {V : Nat → Nat → Int32} {R : Nat → Nat → Option Nat} {post : Option Value → List jC → Prop} {xp : String → List jC → Prop} {w : Nat} (hM : M.1.cls = RX1) (hT : jReg shX2 sh w) (hd : decode M.2.1 pc = .ok (.getfield 132, 3)) (kk : J G l M d c n (pc + 3) lv (.int (V w 1) :: st) (mk sh V R) post xp) : J G l M d c n pc lv (.ref w :: st) (mk sh V R) post xp := JV.getfN (C := RX2) (T0 := TX2) (N := 22) 1 hd hT.1 (hT.at 0 rfl) rfl in_X2 (by decide) (by rw [hM]; exact nw207) rfl rfl kk
theorem fpX1_132 {G : jG} {l : Launch} {M : jM} {d c n pc : Nat} {lv : List (Nat × Value)} {st : List Value} {sh : List jH} {V : Nat → Nat → Int32} {R : Nat → Nat → Option Nat} {post : Option Value → List jC → Prop} {xp : String → List jC → Prop} {w : Nat} (hM : M.1.cls = RX1) (hT : jReg shX2 sh w) {x9 : Int32} (hd : decode M.2.1 pc = .ok (.putfield 132, 3)) (kk : J G l M d c n (pc + 3) lv st (mk sh (vset V w 1 x9) R) post xp) : J G l M d c n pc lv (.int x9 :: .ref w :: st) (mk sh V R) post xp := JV.putiN (C := RX2) (T0 := TX2) (N := 22) (o := 0) 1 hd hT.1 (hT.at 0 rfl) rfl in_X2 tyX2 tyX2_ok nmX2 (by decide) (by rw [hM]; exact nw207) rfl rfl (ji_put x9) rfl kk
theorem fgX1_135 {G : jG} {l : Launch} {M : jM} {d c n pc : Nat} {lv : List (Nat × Value)} {st : List Value} {sh : List jH} {V : Nat → Nat → Int32} {R : Nat → Nat → Option Nat} {post : Option Value → List jC → Prop} {xp : String → List jC → Prop} {w : Nat} (hM : M.1.cls = RX1) (hT : jReg shX2 sh w) (hd : decode M.2.1 pc = .ok (.getfield 135, 3)) (kk : J G l M d c n (pc + 3) lv (.ref (w + 1) :: st) (mk sh V R) post xp) : J G l M d c n pc lv (.ref w :: st) (mk sh V R) post xp := JV.getfN (C := RX2) (T0 := TX2) (N := 22) 9 hd hT.1 (hT.at 0 rfl) rfl in_X2 (by decide) (by rw [hM]; exact nw224) rfl rfl kk
theorem fgX1_139 {G : jG} {l : Launch} {M : jM} {d c n pc : Nat} {lv : List (Nat × Value)} {st : List Value} {sh : List jH} {V : Nat → Nat → Int32} {R : Nat → Nat → Option Nat} {post : Option Value → List jC → Prop} {xp : String → List jC → Prop} {w : Nat} (hM : M.1.cls = RX1) (hT : jReg shX2 sh w) (hd : decode M.2.1 pc = .ok (.getfield 139, 3)) (kk : J G l M d c n (pc + 3) lv (.ref (w + 2) :: st) (mk sh V R) post xp) : J G l M d c n pc lv (.ref w :: st) (mk sh V R) post xp := JV.getfN (C := RX2) (T0 := TX2) (N := 22) 10 hd hT.1 (hT.at 0 rfl) rfl in_X2 (by decide) (by rw [hM]; exact nw226) rfl rfl kk
theorem fgX1_145 {G : jG} {l : Launch} {M : jM} {d c n pc : Nat} {lv : List (Nat × Value)} {st : List Value} {sh : List jH} {V : Nat → Nat → Int32} {R : Nat → Nat → Option Nat} {post : Option Value → List jC → Prop} {xp : String → List jC → Prop} {w : Nat} (hM : M.1.cls = RX1) (hT : jReg shX2 sh w) (hd : decode M.2.1 pc = .ok (.getfield 145, 3)) (kk : J G l M d c n (pc + 3) lv (.ref (w + 3) :: st) (mk sh V R) post xp) : J G l M d c n pc lv (.ref w :: st) (mk sh V R) post xp := JV.getfN (C := RX2) (T0 := TX2) (N := 22) 11 hd hT.1 (hT.at 0 rfl) rfl in_X2 (by decide) (by rw [hM]; exact nw228) rfl rfl kk
theorem fgX1_148 {G : jG} {l : Launch} {M : jM} {d c n pc : Nat} {lv : List (Nat × Value)} {st : List Value} {sh : List jH} {V : Nat → Nat → Int32} {R : Nat → Nat → Option Nat} {post : Option Value → List jC → Prop} {xp : String → List jC → Prop} {w : Nat} (hM : M.1.cls = RX1) (hT : jReg shX2 sh w) (hd : decode M.2.1 pc = .ok (.getfield 148, 3)) (kk : J G l M d c n (pc + 3) lv (.ref (w + 4) :: st) (mk sh V R) post xp) : J G l M d c n pc lv (.ref w :: st) (mk sh V R) post xp := JV.getfN (C := RX2) (T0 := TX2) (N := 22) 12 hd hT.1 (hT.at 0 rfl) rfl in_X2 (by decide) (by rw [hM]; exact nw230) rfl rfl kk
theorem fgX1_155 {G : jG} {l : Launch} {M : jM} {d c n pc : Nat} {lv : List (Nat × Value)} {st : List Value} {sh : List jH} {V : Nat → Nat → Int32} {R : Nat → Nat → Option Nat} {post : Option Value → List jC → Prop} {xp : String → List jC → Prop} {w : Nat} (hM : M.1.cls = RX1) (hT : jReg shX2 sh w) (hd : decode M.2.1 pc = .ok (.getfield 155, 3)) (kk : J G l M d c n (pc + 3) lv (.ref (w + 8) :: st) (mk sh V R) post xp) : J G l M d c n pc lv (.ref w :: st) (mk sh V R) post xp := JV.getfN (C := RX2) (T0 := TX2) (N := 22) 16 hd hT.1 (hT.at 0 rfl) rfl in_X2 (by decide) (by rw [hM]; exact nw239) rfl rfl kk
theorem fgX1_165 {G : jG} {l : Launch} {M : jM} {d c n pc : Nat} {lv : List (Nat × Value)} {st : List Value} {sh : List jH} {V : Nat → Nat → Int32} {R : Nat → Nat → Option Nat} {post : Option Value → List jC → Prop} {xp : String → List jC → Prop} {w : Nat} (hM : M.1.cls = RX1) (hT : jReg shX2 sh w) (hd : decode M.2.1 pc = .ok (.getfield 165, 3)) (kk : J G l M d c n (pc + 3) lv (.ref (w + 17) :: st) (mk sh V R) post xp) : J G l M d c n pc lv (.ref w :: st) (mk sh V R) post xp := JV.getfN (C := RX2) (T0 := TX2) (N := 22) 17 hd hT.1 (hT.at 0 rfl) rfl in_X2 (by decide) (by rw [hM]; exact nw242) rfl rfl kk
abbrev MX1_aHost : jM := (yX1_aHost, cX1_aHost, 4, none, [])
theorem uX1_142 {G : jG} {l : Launch} {M : jM} {d c n pc : Nat} {lv : List (Nat × Value)} {rest : List Value} {post : Option Value → List jC → Prop} {xp : String → List jC → Prop} (hM : M.1.cls = RX1) (htr : l.stackTraces = false) {sh : List jH} {V : Nat → Nat → Int32} {R : Nat → Nat → Option Nat} {x : Nat} (hT : jReg shX1 sh x) {c1 n1 cq nq : Nat} {Q : Int32 → List jH → (Nat → Nat → Int32) → (Nat → Nat → Option Nat) → Prop} {X : String → List jH → (Nat → Nat → Int32) → (Nat → Nat → Option Nat) → Prop} (hd : decode M.2.1 pc = .ok (.invokevirtual 142, 3)) (hdd : 10 + 1 ≤ d) (hw8 : (rest.map fun v => v.category).sum ≤ 8) (hw : wX1_hoursTold x sh V R c1 n1 Q X) (hcc : c1 + c ≤ cq ∧ n1 + n ≤ nq) (kk : ∀ r sh' V' R', Q r sh' V' R' → J G l M d c n (pc + 3) lv (.int r :: rest) (mk sh' V' R') post xp) (kx : ∀ E sh' V' R', X E sh' V' R' → JX G l M d c n pc lv E (mk sh' V' R') post xp) : J G l M d cq nq pc lv (.ref x :: rest) (mk sh V R) post xp := by
  exact J.callV (As := []) (hcw := by rw [hM]; exact lw_V q1300 q1302 qs26 q144 q1303) (mX1_hoursTold htr (Nat.le_refl _) hT hw) hd rfl ⟨0, _, _, mk_at (hT.at 0 rfl), rfl, rfl, fun _ => rfl⟩ ⟨rfl, by decide, by decide, by show _ = some 0; decide +kernel⟩ hw8 ⟨hdd, by decide⟩ hcc (fun r9 g9 h9 => by obtain ⟨s9, V9, R9, rfl, r, rfl, h⟩ := h9; exact kk r s9 V9 R9 h) (fun E9 g9 h9 => by obtain ⟨s9, V9, R9, rfl, h⟩ := h9; exact kx E9 s9 V9 R9 h)
theorem uX1_151 {G : jG} {l : Launch} {M : jM} {d c n pc : Nat} {lv : List (Nat × Value)} {rest : List Value} {post : Option Value → List jC → Prop} {xp : String → List jC → Prop} (hM : M.1.cls = RX1) (htr : l.stackTraces = false) {sh : List jH} {V : Nat → Nat → Int32} {R : Nat → Nat → Option Nat} {w : Nat} (hT : jReg shX2 sh w) {a1 : Int32} {Q : (Nat → Nat → Int32) → Prop} (hd : decode M.2.1 pc = .ok (.invokevirtual 151, 3)) (hdd : 1 + 1 ≤ d) (hw8 : (rest.map fun v => v.category).sum ≤ 8) (hw : wX2_strikes w V a1 Q) (kk : ∀ V', Q V' → J G l M d c n (pc + 3) lv rest (mk sh V' R) post xp) : J G l M d c n pc lv (.int a1 :: .ref w :: rest) (mk sh V R) post xp := by
  exact J.callV (As := [.int a1]) (hcw := by rw [hM]; exact lw_V q1306 q1307 q1308 q145 q1309) (mX2_strikes htr hT hw) hd rfl ⟨1, _, _, mk_at (hT.at 0 rfl), rfl, rfl, fun _ => rfl⟩ ⟨rfl, by decide, by decide, by show _ = some 1; decide +kernel⟩ hw8 ⟨hdd, by decide⟩ jcc0 (fun r9 g9 h9 => by obtain ⟨V9, rfl, rfl, h⟩ := h9; exact kk V9 h) jNo.x
theorem uX1_159 {G : jG} {l : Launch} {M : jM} {d c n pc : Nat} {lv : List (Nat × Value)} {rest : List Value} {post : Option Value → List jC → Prop} {xp : String → List jC → Prop} (hM : M.1.cls = RX1) (htr : l.stackTraces = false) {sh : List jH} {V : Nat → Nat → Int32} {R : Nat → Nat → Option Nat} {p1 : Nat} (hs1 : sh[p1]? = some (.inr (.inl (0, 8)))) (hg1 : jn ≤ p1) {a2 : Int32} {Q : (Nat → Nat → Int32) → Prop} (hd : decode M.2.1 pc = .ok (.invokestatic 159, 3)) (hdd : 0 + 1 ≤ d) (hw8 : (rest.map fun v => v.category).sum ≤ 8) (hw : wJ9_fill p1 V a2 Q) (kk : ∀ V', Q V' → J G l M d c n (pc + 3) lv rest (mk sh V' R) post xp) : J G l M d c n pc lv (.int a2 :: .ref p1 :: rest) (mk sh V R) post xp := by
  exact J.callS (As := [.ref p1, .int a2]) (hcw := by rw [hM]; exact lw_S q1311 q661 q160 q662) (mJ9_fill htr hs1 hg1 hw) hd rfl ⟨by decide, by decide, by show _ = some 2; decide +kernel⟩ hw8 ⟨hdd, by decide⟩ jcc0 (fun r9 g9 h9 => by obtain ⟨V9, rfl, rfl, h⟩ := h9; exact kk V9 h) jNo.x
-- VisitingHours.aHost(LVisitingHours$World;)V
def wX1_aHost_75 (x : Nat) (w1 : Nat) (Q : List jH → (Nat → Nat → Int32) → (Nat → Nat → Option Nat) → Prop) (X : String → List jH → (Nat → Nat → Int32) → (Nat → Nat → Option Nat) → Prop) : Nat → List jH → (Nat → Nat → Int32) → (Nat → Nat → Option Nat) → Nat → Nat → Int32 → Int32 → Prop
  | 0, _, _, _, _, _, _, _ => False
  | f + 1, sh, V, R, c, n, x2, x3 =>
    (((8 : Int32) ≤ x3 → (∀ y103 : Int32, y103 = ((V w1 1) + (1 : Int32)) → Q sh (vset V w1 1 y103) R)) ∧ (¬ (8 : Int32) ≤ x3 → (vp_in x3 8 ∧ (vp_in x2 8 ∧ (∀ y90 : Int32, y90 = x3 + (1 : Int32) → wX1_aHost_75 x w1 Q X f sh (vset V ((w1 + 17) + 1 + x3.toNatClampNeg) x2.toNatClampNeg (5 : Int32)) R c n x2 y90)))))
theorem rX1_aHost_75 {G : jG} {l : Launch} {d : Nat} (htr : l.stackTraces = false) (hdd : 11 ≤ d) {x : Nat} {w1 : Nat} {Q : List jH → (Nat → Nat → Int32) → (Nat → Nat → Option Nat) → Prop} {X : String → List jH → (Nat → Nat → Int32) → (Nat → Nat → Option Nat) → Prop} : ∀ (f : Nat) (sh : List jH) (V : Nat → Nat → Int32) (R : Nat → Nat → Option Nat) (c : Nat) (n : Nat) (x2 : Int32) (x3 : Int32) (hT : jReg shX1 sh x) (hW1 : jReg shX2 sh w1), wX1_aHost_75 x w1 Q X f sh V R c n x2 x3 → J G l MX1_aHost d c n 75 [(1, .ref w1), (2, .int x2), (3, .int x3)] [] (mk sh V R) (jSv Q) (jSx X) := by
  intro f
  induction f with
  | zero =>
    intro sh V R c n x2 x3 hT hW1 hw
    rw [wX1_aHost_75] at hw
    exact hw.elim
  | succ f ih =>
    intro sh V R c n x2 x3 hT hW1 hw
    rw [wX1_aHost_75] at hw
    refine J.iload_n 2 dX1_aHost_75 rfl ?_
    refine J.bipush (v := (8 : Int32)) dX1_aHost_76 (by decide) ?_
    refine J.icmp_ge 96 dX1_aHost_78 (by decide) ⟨fun c78 => ?_, fun c78 => ?_⟩
    · obtain ⟨hw, -⟩ := hw
      specialize hw c78
      refine J.aload_n 0 dX1_aHost_96 rfl ?_
      refine J.dup dX1_aHost_97 rfl ?_
      refine fgX1_132 rfl hW1 dX1_aHost_98 ?_
      refine J.iconst (v := (1 : Int32)) dX1_aHost_101 (by decide) ?_
      refine J.iadd dX1_aHost_102 ?_
      refine J.nm hw (fun y103 hw => ?_)
      refine fpX1_132 rfl hW1 dX1_aHost_103 ?_
      exact J.vret rfl dX1_aHost_106 ⟨_, _, _, rfl, rfl, hw⟩
    · obtain ⟨-, hw⟩ := hw
      specialize hw c78
      refine J.aload_n 0 dX1_aHost_81 rfl ?_
      refine fgX1_165 rfl hW1 dX1_aHost_82 ?_
      refine J.iload_n 2 dX1_aHost_85 rfl ?_
      obtain ⟨h86, hw⟩ := hw
      refine JV.grid dX1_aHost_86 (hW1.ge 17) (hW1.at 17 rfl) h86 ?_
      refine J.iload_n 1 dX1_aHost_87 rfl ?_
      refine J.iconst (v := (5 : Int32)) dX1_aHost_88 (by decide) ?_
      obtain ⟨h89, hw⟩ := hw
      refine JV.iast dX1_aHost_89 (jrowg hW1.1) (jrowV hW1 h86) h89 ?_
      refine J.iincN 2 (K := (1 : Int32)) (lv' := fun y90 => [(3, .int y90), (1, .ref w1), (2, .int x2)]) dX1_aHost_90 rfl (by decide) (by decide) (fun _ => rfl) hw (fun y90 hw => ?_)
      refine J.goto 75 dX1_aHost_93 (by decide) ?_
      exact J.pick [1, 2, 0] rfl (ih _ _ _ _ _ _ _ hT hW1 hw)
def wX1_aHost (x : Nat) (w1 : Nat) (sh : List jH) (V : Nat → Nat → Int32) (R : Nat → Nat → Option Nat) (c : Nat) (n : Nat) (Q : List jH → (Nat → Nat → Int32) → (Nat → Nat → Option Nat) → Prop) (X : String → List jH → (Nat → Nat → Int32) → (Nat → Nat → Option Nat) → Prop) : Prop :=
  (∀ y4 : Int32, y4 = (V w1 1) → ((¬ y4 = (8 : Int32) → (∃ c130 n130 c230 n230 : Nat, c130 + c230 ≤ c ∧ n130 + n230 ≤ n ∧ (wX1_after x sh V R c130 n130 16 (0 : Int32) (9 : Int32) (fun r30 sh30 V30 R30 => (jReg shX1 sh30 x ∧ (jReg shX2 sh30 w1 ∧ (vp_in y4 8 ∧ (∃ c140 n140 c240 n240 : Nat, c140 + c240 ≤ c230 ∧ n140 + n240 ≤ n230 ∧ (wX1_hoursTold x sh30 (vset V30 (w1 + 1) y4.toNatClampNeg r30) R30 c140 n140 (fun r40 sh40 V40 R40 => (jReg shX1 sh40 x ∧ (jReg shX2 sh40 w1 ∧ (vp_in y4 8 ∧ (vp_in y4 8 ∧ (vp_in y4 8 ∧ (wX2_strikes w1 (vset (vset (vset V40 (w1 + 2) y4.toNatClampNeg r40) (w1 + 3) y4.toNatClampNeg (0 : Int32)) (w1 + 4) y4.toNatClampNeg (0 : Int32)) y4 (fun V60 => (vp_in y4 8 ∧ (wJ9_fill ((w1 + 8) + 1 + y4.toNatClampNeg) V60 (5 : Int32) (fun V70 => (∃ f9, wX1_aHost_75 x w1 Q X f9 sh40 V70 R40 c240 n240 y4 (0 : Int32))))))))))))) (fun E9 shx Vx Rx => X E9 shx Vx Rx))))))) (fun E9 shx Vx Rx => X E9 shx Vx Rx)))) ∧ (y4 = (8 : Int32) → (∃ c115 n115 c215 n215 : Nat, c115 + c215 ≤ c ∧ n115 + n215 ≤ n ∧ (wX3_wrong (x + 109) sh V R c115 n115 (fun r15 sh15 V15 R15 => (jReg shX1 sh15 x ∧ (jReg shX2 sh15 w1 ∧ (∃ b18_1, r15 = some b18_1 ∧ (∃ fs18 : List Value, (mk sh15 V15 R15)[b18_1]? = some (.inr (6, fs18)) ∧ jn ≤ b18_1 ∧ X "VisitingHours$Wrong" sh15 V15 R15))))))))))
theorem mX1_aHost {G : jG} {l : Launch} {d : Nat} (htr : l.stackTraces = false) (hdd : 11 ≤ d) {sh : List jH} {V : Nat → Nat → Int32} {R : Nat → Nat → Option Nat} {c : Nat} {n : Nat} {x : Nat} {w1 : Nat} (hT : jReg shX1 sh x) (hW1 : jReg shX2 sh w1) {Q : List jH → (Nat → Nat → Int32) → (Nat → Nat → Option Nat) → Prop} {X : String → List jH → (Nat → Nat → Int32) → (Nat → Nat → Option Nat) → Prop} (hw : wX1_aHost x w1 sh V R c n Q X) : JM G l MX1_aHost d c n [.ref x, .ref w1] (mk sh V R) (jSv Q) (jSx X) := by
  refine JM.intro (by decide) rfl htr (Nat.le_of_ble_eq_true rfl) ?_
  show J G l MX1_aHost d c n 0 [(0, .ref x), (1, .ref w1)] [] (mk sh V R) _ _
  unfold wX1_aHost at hw
  refine J.aload_n 1 dX1_aHost_0 rfl ?_
  refine fgX1_132 rfl hW1 dX1_aHost_1 ?_
  refine J.nm hw (fun y4 hw => ?_)
  refine J.istore_n (lv' := [(2, .int y4), (0, .ref x), (1, .ref w1)]) dX1_aHost_4 (by decide) rfl ?_
  refine J.iload_n 0 dX1_aHost_5 rfl ?_
  refine J.bipush (v := (8 : Int32)) dX1_aHost_6 (by decide) ?_
  refine J.icmp_ne 19 dX1_aHost_8 (by decide) ⟨fun c8 => ?_, fun c8 => ?_⟩
  · obtain ⟨hw, -⟩ := hw
    specialize hw c8
    refine J.aload_n 2 dX1_aHost_19 rfl ?_
    refine fgX1_135 rfl hW1 dX1_aHost_20 ?_
    refine J.iload_n 0 dX1_aHost_23 rfl ?_
    refine J.aload_n 1 dX1_aHost_24 rfl ?_
    refine J.ldcS dX1_aHost_25 jl_1282 (by decide) ?_
    refine J.iconst (v := (0 : Int32)) dX1_aHost_27 (by decide) ?_
    refine J.bipush (v := (9 : Int32)) dX1_aHost_28 (by decide) ?_
    obtain ⟨c130, n130, c230, n230, hc30, hd30, hw⟩ := hw
    refine uX1_110 rfl htr hT dX1_aHost_30 (by omega) (Nat.le_of_ble_eq_true rfl) hw ⟨hc30, hd30⟩ ?_ ?_
    rotate_left
    · exact fun E9 shx Vx Rx h9 => JX.out (by rfl) ⟨_, _, _, rfl, h9⟩
    clear hw
    intro r30 sh30 V30 R30 hw
    clear hW1 hT
    obtain ⟨hT, hW1, hw⟩ := hw
    obtain ⟨h33, hw⟩ := hw
    refine JV.iast dX1_aHost_33 (hW1.ge 1) (hW1.at 1 rfl) h33 ?_
    refine J.aload_n 2 dX1_aHost_34 rfl ?_
    refine fgX1_139 rfl hW1 dX1_aHost_35 ?_
    refine J.iload_n 0 dX1_aHost_38 rfl ?_
    refine J.aload_n 1 dX1_aHost_39 rfl ?_
    obtain ⟨c140, n140, c240, n240, hc40, hd40, hw⟩ := hw
    refine uX1_142 rfl htr hT dX1_aHost_40 (by omega) (Nat.le_of_ble_eq_true rfl) hw ⟨hc40, hd40⟩ ?_ ?_
    rotate_left
    · exact fun E9 shx Vx Rx h9 => JX.out (by rfl) ⟨_, _, _, rfl, h9⟩
    clear hw
    intro r40 sh40 V40 R40 hw
    clear hW1 hT
    obtain ⟨hT, hW1, hw⟩ := hw
    obtain ⟨h43, hw⟩ := hw
    refine JV.iast dX1_aHost_43 (hW1.ge 2) (hW1.at 2 rfl) h43 ?_
    refine J.aload_n 2 dX1_aHost_44 rfl ?_
    refine fgX1_145 rfl hW1 dX1_aHost_45 ?_
    refine J.iload_n 0 dX1_aHost_48 rfl ?_
    refine J.iconst (v := (0 : Int32)) dX1_aHost_49 (by decide) ?_
    obtain ⟨h50, hw⟩ := hw
    refine JV.iast dX1_aHost_50 (hW1.ge 3) (hW1.at 3 rfl) h50 ?_
    refine J.aload_n 2 dX1_aHost_51 rfl ?_
    refine fgX1_148 rfl hW1 dX1_aHost_52 ?_
    refine J.iload_n 0 dX1_aHost_55 rfl ?_
    refine J.iconst (v := (0 : Int32)) dX1_aHost_56 (by decide) ?_
    obtain ⟨h57, hw⟩ := hw
    refine JV.iast dX1_aHost_57 (hW1.ge 4) (hW1.at 4 rfl) h57 ?_
    refine J.aload_n 2 dX1_aHost_58 rfl ?_
    refine J.iload_n 0 dX1_aHost_59 rfl ?_
    refine uX1_151 rfl htr hW1 dX1_aHost_60 (by omega) (Nat.le_of_ble_eq_true rfl) hw ?_
    clear hw
    intro V60 hw
    refine J.aload_n 2 dX1_aHost_63 rfl ?_
    refine fgX1_155 rfl hW1 dX1_aHost_64 ?_
    refine J.iload_n 0 dX1_aHost_67 rfl ?_
    obtain ⟨h68, hw⟩ := hw
    refine JV.grid dX1_aHost_68 (hW1.ge 8) (hW1.at 8 rfl) h68 ?_
    refine J.iconst (v := (5 : Int32)) dX1_aHost_69 (by decide) ?_
    refine uX1_159 rfl htr (jrowL hW1 h68) (jrowg hW1.1) dX1_aHost_70 (by omega) (Nat.le_of_ble_eq_true rfl) hw ?_
    clear hw
    intro V70 hw
    refine J.iconst (v := (0 : Int32)) dX1_aHost_73 (by decide) ?_
    refine J.istore_n (lv' := [(3, .int (0 : Int32)), (2, .int y4), (0, .ref x), (1, .ref w1)]) dX1_aHost_74 (by decide) rfl ?_
    obtain ⟨f9, hw⟩ := hw
    exact J.pick [3, 1, 0] rfl (rX1_aHost_75 htr hdd f9 _ _ _ _ _ _ _ hT hW1 hw)
  · obtain ⟨-, hw⟩ := hw
    specialize hw c8
    refine J.aload_n 1 dX1_aHost_11 rfl ?_
    refine fgX1_25 rfl hT dX1_aHost_12 ?_
    obtain ⟨c115, n115, c215, n215, hc15, hd15, hw⟩ := hw
    refine uX1_96 rfl htr (hT.sub 109 2 rfl) dX1_aHost_15 (by omega) (Nat.le_of_ble_eq_true rfl) hw ⟨hc15, hd15⟩ ?_
    clear hw
    intro r15 sh15 V15 R15 hw
    clear hW1 hT
    obtain ⟨hT, hW1, hw⟩ := hw
    obtain ⟨b18_1, rfl, hw⟩ := hw
    obtain ⟨fs18, hk18, hn18, hw⟩ := hw
    exact J.athrow dX1_aHost_18 hn18 hk18 rfl rfl (JX.out (by rfl) ⟨_, _, _, rfl, hw⟩)
theorem fgX1_168 {G : jG} {l : Launch} {M : jM} {d c n pc : Nat} {lv : List (Nat × Value)} {st : List Value} {sh : List jH} {V : Nat → Nat → Int32} {R : Nat → Nat → Option Nat} {post : Option Value → List jC → Prop} {xp : String → List jC → Prop} {w : Nat} (hM : M.1.cls = RX1) (hT : jReg shX2 sh w) (hd : decode M.2.1 pc = .ok (.getfield 168, 3)) (kk : J G l M d c n (pc + 3) lv (.int (V w 2) :: st) (mk sh V R) post xp) : J G l M d c n pc lv (.ref w :: st) (mk sh V R) post xp := JV.getfN (C := RX2) (T0 := TX2) (N := 22) 2 hd hT.1 (hT.at 0 rfl) rfl in_X2 (by decide) (by rw [hM]; exact nw210) rfl rfl kk
theorem fpX1_168 {G : jG} {l : Launch} {M : jM} {d c n pc : Nat} {lv : List (Nat × Value)} {st : List Value} {sh : List jH} {V : Nat → Nat → Int32} {R : Nat → Nat → Option Nat} {post : Option Value → List jC → Prop} {xp : String → List jC → Prop} {w : Nat} (hM : M.1.cls = RX1) (hT : jReg shX2 sh w) {x9 : Int32} (hd : decode M.2.1 pc = .ok (.putfield 168, 3)) (kk : J G l M d c n (pc + 3) lv st (mk sh (vset V w 2 x9) R) post xp) : J G l M d c n pc lv (.int x9 :: .ref w :: st) (mk sh V R) post xp := JV.putiN (C := RX2) (T0 := TX2) (N := 22) (o := 0) 2 hd hT.1 (hT.at 0 rfl) rfl in_X2 tyX2 tyX2_ok nmX2 (by decide) (by rw [hM]; exact nw210) rfl rfl (ji_put x9) rfl kk
theorem fgX1_171 {G : jG} {l : Launch} {M : jM} {d c n pc : Nat} {lv : List (Nat × Value)} {st : List Value} {sh : List jH} {V : Nat → Nat → Int32} {R : Nat → Nat → Option Nat} {post : Option Value → List jC → Prop} {xp : String → List jC → Prop} {w : Nat} (hM : M.1.cls = RX1) (hT : jReg shX2 sh w) (hd : decode M.2.1 pc = .ok (.getfield 171, 3)) (kk : J G l M d c n (pc + 3) lv (.ref (w + 5) :: st) (mk sh V R) post xp) : J G l M d c n pc lv (.ref w :: st) (mk sh V R) post xp := JV.getfN (C := RX2) (T0 := TX2) (N := 22) 13 hd hT.1 (hT.at 0 rfl) rfl in_X2 (by decide) (by rw [hM]; exact nw232) rfl rfl kk
theorem fgX1_175 {G : jG} {l : Launch} {M : jM} {d c n pc : Nat} {lv : List (Nat × Value)} {st : List Value} {sh : List jH} {V : Nat → Nat → Int32} {R : Nat → Nat → Option Nat} {post : Option Value → List jC → Prop} {xp : String → List jC → Prop} {w : Nat} (hM : M.1.cls = RX1) (hT : jReg shX2 sh w) (hd : decode M.2.1 pc = .ok (.getfield 175, 3)) (kk : J G l M d c n (pc + 3) lv (.ref (w + 6) :: st) (mk sh V R) post xp) : J G l M d c n pc lv (.ref w :: st) (mk sh V R) post xp := JV.getfN (C := RX2) (T0 := TX2) (N := 22) 14 hd hT.1 (hT.at 0 rfl) rfl in_X2 (by decide) (by rw [hM]; exact nw234) rfl rfl kk
theorem fgX1_178 {G : jG} {l : Launch} {M : jM} {d c n pc : Nat} {lv : List (Nat × Value)} {st : List Value} {sh : List jH} {V : Nat → Nat → Int32} {R : Nat → Nat → Option Nat} {post : Option Value → List jC → Prop} {xp : String → List jC → Prop} {w : Nat} (hM : M.1.cls = RX1) (hT : jReg shX2 sh w) (hd : decode M.2.1 pc = .ok (.getfield 178, 3)) (kk : J G l M d c n (pc + 3) lv (.ref (w + 7) :: st) (mk sh V R) post xp) : J G l M d c n pc lv (.ref w :: st) (mk sh V R) post xp := JV.getfN (C := RX2) (T0 := TX2) (N := 22) 15 hd hT.1 (hT.at 0 rfl) rfl in_X2 (by decide) (by rw [hM]; exact nw236) rfl rfl kk
abbrev MX1_aGuest : jM := (yX1_aGuest, cX1_aGuest, 4, none, [])
theorem uX1_182 {G : jG} {l : Launch} {M : jM} {d c n pc : Nat} {lv : List (Nat × Value)} {rest : List Value} {post : Option Value → List jC → Prop} {xp : String → List jC → Prop} (hM : M.1.cls = RX1) (htr : l.stackTraces = false) {sh : List jH} {V : Nat → Nat → Int32} {R : Nat → Nat → Option Nat} {r : Nat} (hT : jReg shX3 sh r) {a1 : Nat} {c1 n1 cq nq : Nat} {Q : Int32 → List jH → (Nat → Nat → Int32) → (Nat → Nat → Option Nat) → Prop} (hd : decode M.2.1 pc = .ok (.invokevirtual 182, 3)) (hdd : 8 + 1 ≤ d) (hw8 : (rest.map fun v => v.category).sum ≤ 8) (hw : wX3_passes r sh V R c1 n1 a1 Q) (hcc : c1 + c ≤ cq ∧ n1 + n ≤ nq) (kk : ∀ r sh' V' R', Q r sh' V' R' → J G l M d c n (pc + 3) lv (.int r :: rest) (mk sh' V' R') post xp) : J G l M d cq nq pc lv (.ref a1 :: .ref r :: rest) (mk sh V R) post xp := by
  exact J.callV (As := [.ref a1]) (hcw := by rw [hM]; exact lw_V q1318 q1319 q1320 q146 q1321) (mX3_passes htr (Nat.le_refl _) hT hw) hd rfl ⟨2, _, _, mk_at (hT.at 0 rfl), rfl, rfl, fun _ => rfl⟩ ⟨rfl, by decide, by decide, by show _ = some 1; decide +kernel⟩ hw8 ⟨hdd, by decide⟩ hcc (fun r9 g9 h9 => by obtain ⟨s9, V9, R9, rfl, r, rfl, h⟩ := h9; exact kk r s9 V9 R9 h) jNo.x
theorem uX1_186 {G : jG} {l : Launch} {M : jM} {d c n pc : Nat} {lv : List (Nat × Value)} {rest : List Value} {post : Option Value → List jC → Prop} {xp : String → List jC → Prop} (hM : M.1.cls = RX1) (htr : l.stackTraces = false) {sh : List jH} {V : Nat → Nat → Int32} {R : Nat → Nat → Option Nat} {x : Nat} (hT : jReg shX1 sh x) {c1 n1 cq nq : Nat} {Q : Int32 → List jH → (Nat → Nat → Int32) → (Nat → Nat → Option Nat) → Prop} {X : String → List jH → (Nat → Nat → Int32) → (Nat → Nat → Option Nat) → Prop} (hd : decode M.2.1 pc = .ok (.invokevirtual 186, 3)) (hdd : 8 + 1 ≤ d) (hw8 : (rest.map fun v => v.category).sum ≤ 8) (hw : wX1_marksTold x sh V R c1 n1 Q X) (hcc : c1 + c ≤ cq ∧ n1 + n ≤ nq) (kk : ∀ r sh' V' R', Q r sh' V' R' → J G l M d c n (pc + 3) lv (.int r :: rest) (mk sh' V' R') post xp) (kx : ∀ E sh' V' R', X E sh' V' R' → JX G l M d c n pc lv E (mk sh' V' R') post xp) : J G l M d cq nq pc lv (.ref x :: rest) (mk sh V R) post xp := by
  exact J.callV (As := []) (hcw := by rw [hM]; exact lw_V q1324 q1326 qs28 q144 q1327) (mX1_marksTold htr (Nat.le_refl _) hT hw) hd rfl ⟨0, _, _, mk_at (hT.at 0 rfl), rfl, rfl, fun _ => rfl⟩ ⟨rfl, by decide, by decide, by show _ = some 0; decide +kernel⟩ hw8 ⟨hdd, by decide⟩ hcc (fun r9 g9 h9 => by obtain ⟨s9, V9, R9, rfl, r, rfl, h⟩ := h9; exact kk r s9 V9 R9 h) (fun E9 g9 h9 => by obtain ⟨s9, V9, R9, rfl, h⟩ := h9; exact kx E9 s9 V9 R9 h)
-- VisitingHours.aGuest(LVisitingHours$World;)V
def wX1_aGuest_81 (x : Nat) (w1 : Nat) (Q : List jH → (Nat → Nat → Int32) → (Nat → Nat → Option Nat) → Prop) (X : String → List jH → (Nat → Nat → Int32) → (Nat → Nat → Option Nat) → Prop) : Nat → List jH → (Nat → Nat → Int32) → (Nat → Nat → Option Nat) → Nat → Nat → Int32 → Int32 → Prop
  | 0, _, _, _, _, _, _, _ => False
  | f + 1, sh, V, R, c, n, x2, x3 =>
    (((8 : Int32) ≤ x3 → (∀ y109 : Int32, y109 = ((V w1 2) + (1 : Int32)) → Q sh (vset V w1 2 y109) R)) ∧ (¬ (8 : Int32) ≤ x3 → (vp_in x3 8 ∧ (vp_in x2 8 ∧ (∀ y96 : Int32, y96 = x3 + (1 : Int32) → wX1_aGuest_81 x w1 Q X f sh (vset V ((w1 + 8) + 1 + x3.toNatClampNeg) x2.toNatClampNeg (5 : Int32)) R c n x2 y96)))))
theorem rX1_aGuest_81 {G : jG} {l : Launch} {d : Nat} (htr : l.stackTraces = false) (hdd : 11 ≤ d) {x : Nat} {w1 : Nat} {Q : List jH → (Nat → Nat → Int32) → (Nat → Nat → Option Nat) → Prop} {X : String → List jH → (Nat → Nat → Int32) → (Nat → Nat → Option Nat) → Prop} : ∀ (f : Nat) (sh : List jH) (V : Nat → Nat → Int32) (R : Nat → Nat → Option Nat) (c : Nat) (n : Nat) (x2 : Int32) (x3 : Int32) (hT : jReg shX1 sh x) (hW1 : jReg shX2 sh w1), wX1_aGuest_81 x w1 Q X f sh V R c n x2 x3 → J G l MX1_aGuest d c n 81 [(1, .ref w1), (2, .int x2), (3, .int x3)] [] (mk sh V R) (jSv Q) (jSx X) := by
  intro f
  induction f with
  | zero =>
    intro sh V R c n x2 x3 hT hW1 hw
    rw [wX1_aGuest_81] at hw
    exact hw.elim
  | succ f ih =>
    intro sh V R c n x2 x3 hT hW1 hw
    rw [wX1_aGuest_81] at hw
    refine J.iload_n 2 dX1_aGuest_81 rfl ?_
    refine J.bipush (v := (8 : Int32)) dX1_aGuest_82 (by decide) ?_
    refine J.icmp_ge 102 dX1_aGuest_84 (by decide) ⟨fun c84 => ?_, fun c84 => ?_⟩
    · obtain ⟨hw, -⟩ := hw
      specialize hw c84
      refine J.aload_n 0 dX1_aGuest_102 rfl ?_
      refine J.dup dX1_aGuest_103 rfl ?_
      refine fgX1_168 rfl hW1 dX1_aGuest_104 ?_
      refine J.iconst (v := (1 : Int32)) dX1_aGuest_107 (by decide) ?_
      refine J.iadd dX1_aGuest_108 ?_
      refine J.nm hw (fun y109 hw => ?_)
      refine fpX1_168 rfl hW1 dX1_aGuest_109 ?_
      exact J.vret rfl dX1_aGuest_112 ⟨_, _, _, rfl, rfl, hw⟩
    · obtain ⟨-, hw⟩ := hw
      specialize hw c84
      refine J.aload_n 0 dX1_aGuest_87 rfl ?_
      refine fgX1_155 rfl hW1 dX1_aGuest_88 ?_
      refine J.iload_n 2 dX1_aGuest_91 rfl ?_
      obtain ⟨h92, hw⟩ := hw
      refine JV.grid dX1_aGuest_92 (hW1.ge 8) (hW1.at 8 rfl) h92 ?_
      refine J.iload_n 1 dX1_aGuest_93 rfl ?_
      refine J.iconst (v := (5 : Int32)) dX1_aGuest_94 (by decide) ?_
      obtain ⟨h95, hw⟩ := hw
      refine JV.iast dX1_aGuest_95 (jrowg hW1.1) (jrowL hW1 h92) h95 ?_
      refine J.iincN 2 (K := (1 : Int32)) (lv' := fun y96 => [(3, .int y96), (1, .ref w1), (2, .int x2)]) dX1_aGuest_96 rfl (by decide) (by decide) (fun _ => rfl) hw (fun y96 hw => ?_)
      refine J.goto 81 dX1_aGuest_99 (by decide) ?_
      exact J.pick [1, 2, 0] rfl (ih _ _ _ _ _ _ _ hT hW1 hw)
def wX1_aGuest_68 (x : Nat) (w1 : Nat) (Q : List jH → (Nat → Nat → Int32) → (Nat → Nat → Option Nat) → Prop) (X : String → List jH → (Nat → Nat → Int32) → (Nat → Nat → Option Nat) → Prop) (sh : List jH) (V : Nat → Nat → Int32) (R : Nat → Nat → Option Nat) (c : Nat) (n : Nat) (x2 : Int32) (s1 : Int32) (s2 : Int32) : Prop :=
  (vp_in s1 8 ∧ (vp_in x2 8 ∧ (wJ9_fill ((w1 + 17) + 1 + x2.toNatClampNeg) (vset V (w1 + 7) s1.toNatClampNeg s2) (5 : Int32) (fun V76 => (∃ f9, wX1_aGuest_81 x w1 Q X f9 sh V76 R c n x2 (0 : Int32))))))
theorem rX1_aGuest_68 {G : jG} {l : Launch} {d : Nat} (htr : l.stackTraces = false) (hdd : 11 ≤ d) {x : Nat} {w1 : Nat} {Q : List jH → (Nat → Nat → Int32) → (Nat → Nat → Option Nat) → Prop} {X : String → List jH → (Nat → Nat → Int32) → (Nat → Nat → Option Nat) → Prop} {sh : List jH} {V : Nat → Nat → Int32} {R : Nat → Nat → Option Nat} {c : Nat} {n : Nat} {x2 : Int32} {s1 : Int32} {s2 : Int32} (hT : jReg shX1 sh x) (hW1 : jReg shX2 sh w1) (hw : wX1_aGuest_68 x w1 Q X sh V R c n x2 s1 s2) : J G l MX1_aGuest d c n 68 [(1, .ref w1), (2, .int x2)] [.int s2, .int s1, .ref (w1 + 7)] (mk sh V R) (jSv Q) (jSx X) := by
  unfold wX1_aGuest_68 at hw
  obtain ⟨h68, hw⟩ := hw
  refine JV.iast dX1_aGuest_68 (hW1.ge 7) (hW1.at 7 rfl) h68 ?_
  refine J.aload_n 0 dX1_aGuest_69 rfl ?_
  refine fgX1_165 rfl hW1 dX1_aGuest_70 ?_
  refine J.iload_n 1 dX1_aGuest_73 rfl ?_
  obtain ⟨h74, hw⟩ := hw
  refine JV.grid dX1_aGuest_74 (hW1.ge 17) (hW1.at 17 rfl) h74 ?_
  refine J.iconst (v := (5 : Int32)) dX1_aGuest_75 (by decide) ?_
  refine uX1_159 rfl htr (jrowV hW1 h74) (jrowg hW1.1) dX1_aGuest_76 (by omega) (Nat.le_of_ble_eq_true rfl) hw ?_
  clear hw
  intro V76 hw
  refine J.iconst (v := (0 : Int32)) dX1_aGuest_79 (by decide) ?_
  refine J.istore_n (lv' := [(3, .int (0 : Int32)), (1, .ref w1), (2, .int x2)]) dX1_aGuest_80 (by decide) rfl ?_
  obtain ⟨f9, hw⟩ := hw
  exact J.pick [1, 2, 0] rfl (rX1_aGuest_81 htr hdd f9 _ _ _ _ _ _ _ hT hW1 hw)
def wX1_aGuest (x : Nat) (w1 : Nat) (sh : List jH) (V : Nat → Nat → Int32) (R : Nat → Nat → Option Nat) (c : Nat) (n : Nat) (Q : List jH → (Nat → Nat → Int32) → (Nat → Nat → Option Nat) → Prop) (X : String → List jH → (Nat → Nat → Int32) → (Nat → Nat → Option Nat) → Prop) : Prop :=
  (∀ y4 : Int32, y4 = (V w1 2) → ((¬ y4 = (8 : Int32) → (∃ c129 n129 c229 n229 : Nat, c129 + c229 ≤ c ∧ n129 + n229 ≤ n ∧ (wX1_after x sh V R c129 n129 22 (1 : Int32) (4 : Int32) (fun r29 sh29 V29 R29 => (jReg shX1 sh29 x ∧ (jReg shX2 sh29 w1 ∧ (vp_in y4 8 ∧ (∃ c139 n139 c239 n239 : Nat, c139 + c239 ≤ c229 ∧ n139 + n239 ≤ n229 ∧ (wX1_hoursTold x sh29 (vset V29 (w1 + 5) y4.toNatClampNeg r29) R29 c139 n139 (fun r39 sh39 V39 R39 => (jReg shX1 sh39 x ∧ (jReg shX2 sh39 w1 ∧ (vp_in y4 8 ∧ (∃ c154 n154 c254 n254 : Nat, c154 + c254 ≤ c239 ∧ n154 + n254 ≤ n239 ∧ (wX3_passes (x + 109) sh39 (vset V39 (w1 + 6) y4.toNatClampNeg r39) R39 c154 n154 24 (fun r54 sh54 V54 R54 => (jReg shX1 sh54 x ∧ (jReg shX2 sh54 w1 ∧ ((r54 = 0 → wX1_aGuest_68 x w1 Q X sh54 V54 R54 c254 n254 y4 y4 (0 : Int32)) ∧ (¬ r54 = 0 → (∃ c161 n161 c261 n261 : Nat, c161 + c261 ≤ c254 ∧ n161 + n261 ≤ n254 ∧ (wX1_marksTold x sh54 V54 R54 c161 n161 (fun r61 sh61 V61 R61 => (jReg shX1 sh61 x ∧ (jReg shX2 sh61 w1 ∧ wX1_aGuest_68 x w1 Q X sh61 V61 R61 c261 n261 y4 y4 r61))) (fun E9 shx Vx Rx => X E9 shx Vx Rx)))))))))))))) (fun E9 shx Vx Rx => X E9 shx Vx Rx))))))) (fun E9 shx Vx Rx => X E9 shx Vx Rx)))) ∧ (y4 = (8 : Int32) → (∃ c115 n115 c215 n215 : Nat, c115 + c215 ≤ c ∧ n115 + n215 ≤ n ∧ (wX3_wrong (x + 109) sh V R c115 n115 (fun r15 sh15 V15 R15 => (jReg shX1 sh15 x ∧ (jReg shX2 sh15 w1 ∧ (∃ b18_1, r15 = some b18_1 ∧ (∃ fs18 : List Value, (mk sh15 V15 R15)[b18_1]? = some (.inr (6, fs18)) ∧ jn ≤ b18_1 ∧ X "VisitingHours$Wrong" sh15 V15 R15))))))))))
theorem mX1_aGuest {G : jG} {l : Launch} {d : Nat} (htr : l.stackTraces = false) (hdd : 11 ≤ d) {sh : List jH} {V : Nat → Nat → Int32} {R : Nat → Nat → Option Nat} {c : Nat} {n : Nat} {x : Nat} {w1 : Nat} (hT : jReg shX1 sh x) (hW1 : jReg shX2 sh w1) {Q : List jH → (Nat → Nat → Int32) → (Nat → Nat → Option Nat) → Prop} {X : String → List jH → (Nat → Nat → Int32) → (Nat → Nat → Option Nat) → Prop} (hw : wX1_aGuest x w1 sh V R c n Q X) : JM G l MX1_aGuest d c n [.ref x, .ref w1] (mk sh V R) (jSv Q) (jSx X) := by
  refine JM.intro (by decide) rfl htr (Nat.le_of_ble_eq_true rfl) ?_
  show J G l MX1_aGuest d c n 0 [(0, .ref x), (1, .ref w1)] [] (mk sh V R) _ _
  unfold wX1_aGuest at hw
  refine J.aload_n 1 dX1_aGuest_0 rfl ?_
  refine fgX1_168 rfl hW1 dX1_aGuest_1 ?_
  refine J.nm hw (fun y4 hw => ?_)
  refine J.istore_n (lv' := [(2, .int y4), (0, .ref x), (1, .ref w1)]) dX1_aGuest_4 (by decide) rfl ?_
  refine J.iload_n 0 dX1_aGuest_5 rfl ?_
  refine J.bipush (v := (8 : Int32)) dX1_aGuest_6 (by decide) ?_
  refine J.icmp_ne 19 dX1_aGuest_8 (by decide) ⟨fun c8 => ?_, fun c8 => ?_⟩
  · obtain ⟨hw, -⟩ := hw
    specialize hw c8
    refine J.aload_n 2 dX1_aGuest_19 rfl ?_
    refine fgX1_171 rfl hW1 dX1_aGuest_20 ?_
    refine J.iload_n 0 dX1_aGuest_23 rfl ?_
    refine J.aload_n 1 dX1_aGuest_24 rfl ?_
    refine J.ldcS dX1_aGuest_25 jl_1316 (by decide) ?_
    refine J.iconst (v := (1 : Int32)) dX1_aGuest_27 (by decide) ?_
    refine J.iconst (v := (4 : Int32)) dX1_aGuest_28 (by decide) ?_
    obtain ⟨c129, n129, c229, n229, hc29, hd29, hw⟩ := hw
    refine uX1_110 rfl htr hT dX1_aGuest_29 (by omega) (Nat.le_of_ble_eq_true rfl) hw ⟨hc29, hd29⟩ ?_ ?_
    rotate_left
    · exact fun E9 shx Vx Rx h9 => JX.out (by rfl) ⟨_, _, _, rfl, h9⟩
    clear hw
    intro r29 sh29 V29 R29 hw
    clear hW1 hT
    obtain ⟨hT, hW1, hw⟩ := hw
    obtain ⟨h32, hw⟩ := hw
    refine JV.iast dX1_aGuest_32 (hW1.ge 5) (hW1.at 5 rfl) h32 ?_
    refine J.aload_n 2 dX1_aGuest_33 rfl ?_
    refine fgX1_175 rfl hW1 dX1_aGuest_34 ?_
    refine J.iload_n 0 dX1_aGuest_37 rfl ?_
    refine J.aload_n 1 dX1_aGuest_38 rfl ?_
    obtain ⟨c139, n139, c239, n239, hc39, hd39, hw⟩ := hw
    refine uX1_142 rfl htr hT dX1_aGuest_39 (by omega) (Nat.le_of_ble_eq_true rfl) hw ⟨hc39, hd39⟩ ?_ ?_
    rotate_left
    · exact fun E9 shx Vx Rx h9 => JX.out (by rfl) ⟨_, _, _, rfl, h9⟩
    clear hw
    intro r39 sh39 V39 R39 hw
    clear hW1 hT
    obtain ⟨hT, hW1, hw⟩ := hw
    obtain ⟨h42, hw⟩ := hw
    refine JV.iast dX1_aGuest_42 (hW1.ge 6) (hW1.at 6 rfl) h42 ?_
    refine J.aload_n 2 dX1_aGuest_43 rfl ?_
    refine fgX1_178 rfl hW1 dX1_aGuest_44 ?_
    refine J.iload_n 0 dX1_aGuest_47 rfl ?_
    refine J.aload_n 1 dX1_aGuest_48 rfl ?_
    refine fgX1_25 rfl hT dX1_aGuest_49 ?_
    refine J.ldcS dX1_aGuest_52 jl_1317 (by decide) ?_
    obtain ⟨c154, n154, c254, n254, hc54, hd54, hw⟩ := hw
    refine uX1_182 rfl htr (hT.sub 109 2 rfl) dX1_aGuest_54 (by omega) (Nat.le_of_ble_eq_true rfl) hw ⟨hc54, hd54⟩ ?_
    clear hw
    intro r54 sh54 V54 R54 hw
    clear hW1 hT
    obtain ⟨hT, hW1, hw⟩ := hw
    refine J.if_eq 67 dX1_aGuest_57 (by decide) ⟨fun c57 => ?_, fun c57 => ?_⟩
    · obtain ⟨hw, -⟩ := hw
      specialize hw c57
      refine J.iconst (v := (0 : Int32)) dX1_aGuest_67 (by decide) ?_
      exact J.pick [2, 0] rfl (rX1_aGuest_68 htr hdd hT hW1 hw)
    · obtain ⟨-, hw⟩ := hw
      specialize hw c57
      refine J.aload_n 1 dX1_aGuest_60 rfl ?_
      obtain ⟨c161, n161, c261, n261, hc61, hd61, hw⟩ := hw
      refine uX1_186 rfl htr hT dX1_aGuest_61 (by omega) (Nat.le_of_ble_eq_true rfl) hw ⟨hc61, hd61⟩ ?_ ?_
      rotate_left
      · exact fun E9 shx Vx Rx h9 => JX.out (by rfl) ⟨_, _, _, rfl, h9⟩
      clear hw
      intro r61 sh61 V61 R61 hw
      clear hW1 hT
      obtain ⟨hT, hW1, hw⟩ := hw
      refine J.goto 68 dX1_aGuest_64 (by decide) ?_
      exact J.pick [2, 0] rfl (rX1_aGuest_68 htr hdd hT hW1 hw)
  · obtain ⟨-, hw⟩ := hw
    specialize hw c8
    refine J.aload_n 1 dX1_aGuest_11 rfl ?_
    refine fgX1_25 rfl hT dX1_aGuest_12 ?_
    obtain ⟨c115, n115, c215, n215, hc15, hd15, hw⟩ := hw
    refine uX1_96 rfl htr (hT.sub 109 2 rfl) dX1_aGuest_15 (by omega) (Nat.le_of_ble_eq_true rfl) hw ⟨hc15, hd15⟩ ?_
    clear hw
    intro r15 sh15 V15 R15 hw
    clear hW1 hT
    obtain ⟨hT, hW1, hw⟩ := hw
    obtain ⟨b18_1, rfl, hw⟩ := hw
    obtain ⟨fs18, hk18, hn18, hw⟩ := hw
    exact J.athrow dX1_aGuest_18 hn18 hk18 rfl rfl (JX.out (by rfl) ⟨_, _, _, rfl, hw⟩)
theorem fgX1_192 {G : jG} {l : Launch} {M : jM} {d c n pc : Nat} {lv : List (Nat × Value)} {st : List Value} {sh : List jH} {V : Nat → Nat → Int32} {R : Nat → Nat → Option Nat} {post : Option Value → List jC → Prop} {xp : String → List jC → Prop} {r : Nat} (hM : M.1.cls = RX1) (hT : jReg shX3 sh r) (hd : decode M.2.1 pc = .ok (.getfield 192, 3)) (kk : J G l M d c n (pc + 3) lv (.int (V r 3) :: st) (mk sh V R) post xp) : J G l M d c n pc lv (.ref r :: st) (mk sh V R) post xp := JV.getfN (C := RX3) (T0 := TX3) (N := 7) 3 hd hT.1 (hT.at 0 rfl) rfl in_X3 (by decide) (by rw [hM]; exact nw309) rfl rfl kk
theorem fpX1_192 {G : jG} {l : Launch} {M : jM} {d c n pc : Nat} {lv : List (Nat × Value)} {st : List Value} {sh : List jH} {V : Nat → Nat → Int32} {R : Nat → Nat → Option Nat} {post : Option Value → List jC → Prop} {xp : String → List jC → Prop} {r : Nat} (hM : M.1.cls = RX1) (hT : jReg shX3 sh r) {x9 : Int32} (hd : decode M.2.1 pc = .ok (.putfield 192, 3)) (kk : J G l M d c n (pc + 3) lv st (mk sh (vset V r 3 x9) R) post xp) : J G l M d c n pc lv (.int x9 :: .ref r :: st) (mk sh V R) post xp := JV.putiN (C := RX3) (T0 := TX3) (N := 7) (o := 0) 3 hd hT.1 (hT.at 0 rfl) rfl in_X3 tyX3 tyX3_ok nmX3 (by decide) (by rw [hM]; exact nw309) rfl rfl (ji_put x9) rfl kk
abbrev MX1_ranks : jM := (yX1_ranks, cX1_ranks, 5, none, [])
theorem uX1_189 {G : jG} {l : Launch} {M : jM} {d c n pc : Nat} {lv : List (Nat × Value)} {rest : List Value} {post : Option Value → List jC → Prop} {xp : String → List jC → Prop} (hM : M.1.cls = RX1) (htr : l.stackTraces = false) {sh : List jH} {V : Nat → Nat → Int32} {R : Nat → Nat → Option Nat} {r : Nat} (hT : jReg shX3 sh r) {Q : (Nat → Nat → Int32) → Prop} (hd : decode M.2.1 pc = .ok (.invokevirtual 189, 3)) (hdd : 1 + 1 ≤ d) (hw8 : (rest.map fun v => v.category).sum ≤ 8) (hw : wX3_blanks r V Q) (kk : ∀ V', Q V' → J G l M d c n (pc + 3) lv rest (mk sh V' R) post xp) : J G l M d c n pc lv (.ref r :: rest) (mk sh V R) post xp := by
  exact J.callV (As := []) (hcw := by rw [hM]; exact lw_V q1345 q827 q828 q146 q829) (mX3_blanks htr hT hw) hd rfl ⟨2, _, _, mk_at (hT.at 0 rfl), rfl, rfl, fun _ => rfl⟩ ⟨rfl, by decide, by decide, by show _ = some 0; decide +kernel⟩ hw8 ⟨hdd, by decide⟩ jcc0 (fun r9 g9 h9 => by obtain ⟨V9, rfl, rfl, h⟩ := h9; exact kk V9 h) jNo.x
theorem uX1_195 {G : jG} {l : Launch} {M : jM} {d c n pc : Nat} {lv : List (Nat × Value)} {rest : List Value} {post : Option Value → List jC → Prop} {xp : String → List jC → Prop} (hM : M.1.cls = RX1) (htr : l.stackTraces = false) {sh : List jH} {V : Nat → Nat → Int32} {R : Nat → Nat → Option Nat} {r : Nat} (hT : jReg shX3 sh r) {a1 : Int32} {Q : Int32 → Prop} (hd : decode M.2.1 pc = .ok (.invokevirtual 195, 3)) (hdd : 0 + 1 ≤ d) (hw8 : (rest.map fun v => v.category).sum ≤ 8) (hw : wX3_byteAt r V a1 Q) (kk : ∀ r, Q r → J G l M d c n (pc + 3) lv (.int r :: rest) (mk sh V R) post xp) : J G l M d c n pc lv (.int a1 :: .ref r :: rest) (mk sh V R) post xp := by
  exact J.callVN (M' := MX3_byteAt) (As := [.int a1]) (hcw := lw_meth q833) (hlk := by rw [hM]; exact nw1346) (hini := q146) (hin := q832) (hsel := qs19) (mX3_byteAt htr hT hw) hd rfl ⟨2, _, _, mk_at (hT.at 0 rfl), rfl, rfl, fun _ => rfl⟩ ⟨rfl, by decide, by decide, by show _ = some 1; decide +kernel⟩ hw8 ⟨hdd, by decide⟩ jcc0 (fun r9 g9 h9 => by obtain ⟨rfl, r, rfl, h⟩ := h9; exact kk r h) jNo.x
-- VisitingHours.ranks([II)V
def wX1_ranks_51 (x : Nat) (p1 : Nat) (a2 : Int32) (Q : List jH → (Nat → Nat → Int32) → (Nat → Nat → Option Nat) → Prop) (X : String → List jH → (Nat → Nat → Int32) → (Nat → Nat → Option Nat) → Prop) (K12 : List jH → (Nat → Nat → Int32) → (Nat → Nat → Option Nat) → Nat → Nat → Int32 → Prop) (sh : List jH) (V : Nat → Nat → Int32) (R : Nat → Nat → Option Nat) (c : Nat) (n : Nat) (x4 : Int32) : Prop :=
  (∀ y51 : Int32, y51 = x4 + (1 : Int32) → (∀ y61 : Int32, y61 = ((V (x + 109) 3) + (1 : Int32)) → K12 sh (vset V (x + 109) 3 y61) R c n y51))
theorem rX1_ranks_51 {G : jG} {l : Launch} {d : Nat} (htr : l.stackTraces = false) (hdd : 5 ≤ d) {x : Nat} {p1 : Nat} {a2 : Int32} {Q : List jH → (Nat → Nat → Int32) → (Nat → Nat → Option Nat) → Prop} {X : String → List jH → (Nat → Nat → Int32) → (Nat → Nat → Option Nat) → Prop} {K12 : List jH → (Nat → Nat → Int32) → (Nat → Nat → Option Nat) → Nat → Nat → Int32 → Prop} (hK12 : ∀ (sh : List jH) (V : Nat → Nat → Int32) (R : Nat → Nat → Option Nat) (c : Nat) (n : Nat) (x4 : Int32) (hT : jReg shX1 sh x) (hs1 : sh[p1]? = some (.inr (.inl (0, 8)))) (hg1 : jn ≤ p1), K12 sh V R c n x4 → J G l MX1_ranks d c n 12 [(1, .ref p1), (2, .int a2), (3, .ref (x + 109)), (4, .int x4)] [] (mk sh V R) (jSv Q) (jSx X)) {sh : List jH} {V : Nat → Nat → Int32} {R : Nat → Nat → Option Nat} {c : Nat} {n : Nat} {x4 : Int32} (hT : jReg shX1 sh x) (hs1 : sh[p1]? = some (.inr (.inl (0, 8)))) (hg1 : jn ≤ p1) (hw : wX1_ranks_51 x p1 a2 Q X K12 sh V R c n x4) : J G l MX1_ranks d c n 51 [(1, .ref p1), (2, .int a2), (3, .ref (x + 109)), (4, .int x4)] [] (mk sh V R) (jSv Q) (jSx X) := by
  unfold wX1_ranks_51 at hw
  refine J.iincN 3 (K := (1 : Int32)) (lv' := fun y51 => [(4, .int y51), (1, .ref p1), (2, .int a2), (3, .ref (x + 109))]) dX1_ranks_51 rfl (by decide) (by decide) (fun _ => rfl) hw (fun y51 hw => ?_)
  refine J.aload_n 3 dX1_ranks_54 rfl ?_
  refine J.dup dX1_ranks_55 rfl ?_
  refine fgX1_192 rfl (hT.sub 109 2 rfl) dX1_ranks_56 ?_
  refine J.iconst (v := (1 : Int32)) dX1_ranks_59 (by decide) ?_
  refine J.iadd dX1_ranks_60 ?_
  refine J.nm hw (fun y61 hw => ?_)
  refine fpX1_192 rfl (hT.sub 109 2 rfl) dX1_ranks_61 ?_
  refine J.goto 12 dX1_ranks_64 (by decide) ?_
  exact J.pick [1, 2, 3, 0] rfl (hK12 _ _ _ _ _ _ hT hs1 hg1 hw)
def wX1_ranks_12 (x : Nat) (p1 : Nat) (a2 : Int32) (Q : List jH → (Nat → Nat → Int32) → (Nat → Nat → Option Nat) → Prop) (X : String → List jH → (Nat → Nat → Int32) → (Nat → Nat → Option Nat) → Prop) : Nat → List jH → (Nat → Nat → Int32) → (Nat → Nat → Option Nat) → Nat → Nat → Int32 → Prop
  | 0, _, _, _, _, _, _ => False
  | f + 1, sh, V, R, c, n, x4 =>
    (wX3_byteAt (x + 109) V (V (x + 109) 3) (fun r17 => (wX1_in r17 (48 : Int32) (57 : Int32) (fun r24 => ((r24 = 0 → ((x4 = a2 → Q sh V R) ∧ (¬ x4 = a2 → (∃ c174 n174 c274 n274 : Nat, c174 + c274 ≤ c ∧ n174 + n274 ≤ n ∧ (wX3_wrong (x + 109) sh V R c174 n174 (fun r74 sh74 V74 R74 => (jReg shX1 sh74 x ∧ (sh74[p1]? = some (.inr (.inl (0, 8))) ∧ (jn ≤ p1 ∧ (∃ b77_1, r74 = some b77_1 ∧ (∃ fs77 : List Value, (mk sh74 V74 R74)[b77_1]? = some (.inr (6, fs77)) ∧ jn ≤ b77_1 ∧ X "VisitingHours$Wrong" sh74 V74 R74))))))))))) ∧ (¬ r24 = 0 → ((a2 ≤ x4 → wX1_ranks_51 x p1 a2 Q X (fun sh V R c n x4 => wX1_ranks_12 x p1 a2 Q X f sh V R c n x4) sh V R c n x4) ∧ (¬ a2 ≤ x4 → (wX3_byteAt (x + 109) V (V (x + 109) 3) (fun r44 => (∀ y50 : Int32, y50 = (r44 - (48 : Int32)) → (vp_in x4 8 ∧ wX1_ranks_51 x p1 a2 Q X (fun sh V R c n x4 => wX1_ranks_12 x p1 a2 Q X f sh V R c n x4) sh (vset V p1 x4.toNatClampNeg y50) R c n x4))))))))))))
theorem rX1_ranks_12 {G : jG} {l : Launch} {d : Nat} (htr : l.stackTraces = false) (hdd : 5 ≤ d) {x : Nat} {p1 : Nat} {a2 : Int32} {Q : List jH → (Nat → Nat → Int32) → (Nat → Nat → Option Nat) → Prop} {X : String → List jH → (Nat → Nat → Int32) → (Nat → Nat → Option Nat) → Prop} : ∀ (f : Nat) (sh : List jH) (V : Nat → Nat → Int32) (R : Nat → Nat → Option Nat) (c : Nat) (n : Nat) (x4 : Int32) (hT : jReg shX1 sh x) (hs1 : sh[p1]? = some (.inr (.inl (0, 8)))) (hg1 : jn ≤ p1), wX1_ranks_12 x p1 a2 Q X f sh V R c n x4 → J G l MX1_ranks d c n 12 [(1, .ref p1), (2, .int a2), (3, .ref (x + 109)), (4, .int x4)] [] (mk sh V R) (jSv Q) (jSx X) := by
  intro f
  induction f with
  | zero =>
    intro sh V R c n x4 hT hs1 hg1 hw
    rw [wX1_ranks_12] at hw
    exact hw.elim
  | succ f ih =>
    intro sh V R c n x4 hT hs1 hg1 hw
    rw [wX1_ranks_12] at hw
    refine J.aload_n 2 dX1_ranks_12 rfl ?_
    refine J.aload_n 2 dX1_ranks_13 rfl ?_
    refine fgX1_192 rfl (hT.sub 109 2 rfl) dX1_ranks_14 ?_
    refine uX1_195 rfl htr (hT.sub 109 2 rfl) dX1_ranks_17 (by omega) (Nat.le_of_ble_eq_true rfl) hw ?_
    clear hw
    intro r17 hw
    refine J.bipush (v := (48 : Int32)) dX1_ranks_20 (by decide) ?_
    refine J.bipush (v := (57 : Int32)) dX1_ranks_22 (by decide) ?_
    refine uX1_124 rfl htr dX1_ranks_24 (by omega) (Nat.le_of_ble_eq_true rfl) hw ?_
    clear hw
    intro r24 hw
    refine J.if_eq 67 dX1_ranks_27 (by decide) ⟨fun c27 => ?_, fun c27 => ?_⟩
    · obtain ⟨hw, -⟩ := hw
      specialize hw c27
      refine J.iload 3 dX1_ranks_67 rfl ?_
      refine J.iload_n 1 dX1_ranks_69 rfl ?_
      refine J.icmp_eq 78 dX1_ranks_70 (by decide) ⟨fun c70 => ?_, fun c70 => ?_⟩
      · obtain ⟨hw, -⟩ := hw
        specialize hw c70
        exact J.vret rfl dX1_ranks_78 ⟨_, _, _, rfl, rfl, hw⟩
      · obtain ⟨-, hw⟩ := hw
        specialize hw c70
        refine J.aload_n 2 dX1_ranks_73 rfl ?_
        obtain ⟨c174, n174, c274, n274, hc74, hd74, hw⟩ := hw
        refine uX1_96 rfl htr (hT.sub 109 2 rfl) dX1_ranks_74 (by omega) (Nat.le_of_ble_eq_true rfl) hw ⟨hc74, hd74⟩ ?_
        clear hw
        intro r74 sh74 V74 R74 hw
        clear hg1 hs1 hT
        obtain ⟨hT, hs1, hg1, hw⟩ := hw
        obtain ⟨b77_1, rfl, hw⟩ := hw
        obtain ⟨fs77, hk77, hn77, hw⟩ := hw
        exact J.athrow dX1_ranks_77 hn77 hk77 rfl rfl (JX.out (by rfl) ⟨_, _, _, rfl, hw⟩)
    · obtain ⟨-, hw⟩ := hw
      specialize hw c27
      refine J.iload 3 dX1_ranks_30 rfl ?_
      refine J.iload_n 1 dX1_ranks_32 rfl ?_
      refine J.icmp_ge 51 dX1_ranks_33 (by decide) ⟨fun c33 => ?_, fun c33 => ?_⟩
      · obtain ⟨hw, -⟩ := hw
        specialize hw c33
        exact (rX1_ranks_51 htr hdd ih hT hs1 hg1 hw)
      · obtain ⟨-, hw⟩ := hw
        specialize hw c33
        refine J.aload_n 0 dX1_ranks_36 rfl ?_
        refine J.iload 3 dX1_ranks_37 rfl ?_
        refine J.aload_n 2 dX1_ranks_39 rfl ?_
        refine J.aload_n 2 dX1_ranks_40 rfl ?_
        refine fgX1_192 rfl (hT.sub 109 2 rfl) dX1_ranks_41 ?_
        refine uX1_195 rfl htr (hT.sub 109 2 rfl) dX1_ranks_44 (by omega) (Nat.le_of_ble_eq_true rfl) hw ?_
        clear hw
        intro r44 hw
        refine J.bipush (v := (48 : Int32)) dX1_ranks_47 (by decide) ?_
        refine J.isub dX1_ranks_49 ?_
        refine J.nm hw (fun y50 hw => ?_)
        obtain ⟨h50, hw⟩ := hw
        refine JV.iast dX1_ranks_50 hg1 hs1 h50 ?_
        exact (rX1_ranks_51 htr hdd ih hT hs1 hg1 hw)
def wX1_ranks (x : Nat) (p1 : Nat) (sh : List jH) (V : Nat → Nat → Int32) (R : Nat → Nat → Option Nat) (c : Nat) (n : Nat) (a2 : Int32) (Q : List jH → (Nat → Nat → Int32) → (Nat → Nat → Option Nat) → Prop) (X : String → List jH → (Nat → Nat → Int32) → (Nat → Nat → Option Nat) → Prop) : Prop :=
  (wX3_blanks (x + 109) V (fun V6 => (∃ f9, wX1_ranks_12 x p1 a2 Q X f9 sh V6 R c n (0 : Int32))))
theorem mX1_ranks {G : jG} {l : Launch} {d : Nat} (htr : l.stackTraces = false) (hdd : 5 ≤ d) {sh : List jH} {V : Nat → Nat → Int32} {R : Nat → Nat → Option Nat} {c : Nat} {n : Nat} {x : Nat} {p1 : Nat} (hT : jReg shX1 sh x) (hs1 : sh[p1]? = some (.inr (.inl (0, 8)))) (hg1 : jn ≤ p1) {a2 : Int32} {Q : List jH → (Nat → Nat → Int32) → (Nat → Nat → Option Nat) → Prop} {X : String → List jH → (Nat → Nat → Int32) → (Nat → Nat → Option Nat) → Prop} (hw : wX1_ranks x p1 sh V R c n a2 Q X) : JM G l MX1_ranks d c n [.ref x, .ref p1, .int a2] (mk sh V R) (jSv Q) (jSx X) := by
  refine JM.intro (by decide) rfl htr (Nat.le_of_ble_eq_true rfl) ?_
  show J G l MX1_ranks d c n 0 [(0, .ref x), (1, .ref p1), (2, .int a2)] [] (mk sh V R) _ _
  unfold wX1_ranks at hw
  refine J.aload_n 0 dX1_ranks_0 rfl ?_
  refine fgX1_25 rfl hT dX1_ranks_1 ?_
  refine J.astore_n (lv' := [(3, .ref (x + 109)), (0, .ref x), (1, .ref p1), (2, .int a2)]) dX1_ranks_4 (by decide) rfl ?_
  refine J.aload_n 0 dX1_ranks_5 rfl ?_
  refine uX1_189 rfl htr (hT.sub 109 2 rfl) dX1_ranks_6 (by omega) (Nat.le_of_ble_eq_true rfl) hw ?_
  clear hw
  intro V6 hw
  refine J.iconst (v := (0 : Int32)) dX1_ranks_9 (by decide) ?_
  refine J.istore (lv' := [(4, .int (0 : Int32)), (3, .ref (x + 109)), (0, .ref x), (1, .ref p1), (2, .int a2)]) dX1_ranks_10 (by decide) rfl ?_
  obtain ⟨f9, hw⟩ := hw
  exact J.pick [3, 4, 1, 0] rfl (rX1_ranks_12 htr hdd f9 _ _ _ _ _ _ hT hs1 hg1 hw)
theorem fpX1_225 {G : jG} {l : Launch} {M : jM} {d c n pc : Nat} {lv : List (Nat × Value)} {st : List Value} {sh : List jH} {V : Nat → Nat → Int32} {R : Nat → Nat → Option Nat} {post : Option Value → List jC → Prop} {xp : String → List jC → Prop} {w : Nat} (hM : M.1.cls = RX1) (hT : jReg shX2 sh w) {x9 : Int32} (hd : decode M.2.1 pc = .ok (.putfield 225, 3)) (kk : J G l M d c n (pc + 3) lv st (mk sh (vset V w 3 x9) R) post xp) : J G l M d c n pc lv (.int x9 :: .ref w :: st) (mk sh V R) post xp := JV.putiN (C := RX2) (T0 := TX2) (N := 22) (o := 0) 3 hd hT.1 (hT.at 0 rfl) rfl in_X2 tyX2 tyX2_ok nmX2 (by decide) (by rw [hM]; exact nw212) rfl rfl (ji_put x9) rfl kk
theorem fpX1_227 {G : jG} {l : Launch} {M : jM} {d c n pc : Nat} {lv : List (Nat × Value)} {st : List Value} {sh : List jH} {V : Nat → Nat → Int32} {R : Nat → Nat → Option Nat} {post : Option Value → List jC → Prop} {xp : String → List jC → Prop} {w : Nat} (hM : M.1.cls = RX1) (hT : jReg shX2 sh w) {x9 : Int32} (hd : decode M.2.1 pc = .ok (.putfield 227, 3)) (kk : J G l M d c n (pc + 3) lv st (mk sh (vset V w 6 x9) R) post xp) : J G l M d c n pc lv (.int x9 :: .ref w :: st) (mk sh V R) post xp := JV.putiN (C := RX2) (T0 := TX2) (N := 22) (o := 0) 6 hd hT.1 (hT.at 0 rfl) rfl in_X2 tyX2 tyX2_ok nmX2 (by decide) (by rw [hM]; exact nw218) rfl rfl (ji_put x9) rfl kk
theorem fpX1_229 {G : jG} {l : Launch} {M : jM} {d c n pc : Nat} {lv : List (Nat × Value)} {st : List Value} {sh : List jH} {V : Nat → Nat → Int32} {R : Nat → Nat → Option Nat} {post : Option Value → List jC → Prop} {xp : String → List jC → Prop} {w : Nat} (hM : M.1.cls = RX1) (hT : jReg shX2 sh w) {x9 : Int32} (hd : decode M.2.1 pc = .ok (.putfield 229, 3)) (kk : J G l M d c n (pc + 3) lv st (mk sh (vset V w 4 x9) R) post xp) : J G l M d c n pc lv (.int x9 :: .ref w :: st) (mk sh V R) post xp := JV.putiN (C := RX2) (T0 := TX2) (N := 22) (o := 0) 4 hd hT.1 (hT.at 0 rfl) rfl in_X2 tyX2 tyX2_ok nmX2 (by decide) (by rw [hM]; exact nw214) rfl rfl (ji_put x9) rfl kk
theorem fpX1_231 {G : jG} {l : Launch} {M : jM} {d c n pc : Nat} {lv : List (Nat × Value)} {st : List Value} {sh : List jH} {V : Nat → Nat → Int32} {R : Nat → Nat → Option Nat} {post : Option Value → List jC → Prop} {xp : String → List jC → Prop} {w : Nat} (hM : M.1.cls = RX1) (hT : jReg shX2 sh w) {x9 : Int32} (hd : decode M.2.1 pc = .ok (.putfield 231, 3)) (kk : J G l M d c n (pc + 3) lv st (mk sh (vset V w 5 x9) R) post xp) : J G l M d c n pc lv (.int x9 :: .ref w :: st) (mk sh V R) post xp := JV.putiN (C := RX2) (T0 := TX2) (N := 22) (o := 0) 5 hd hT.1 (hT.at 0 rfl) rfl in_X2 tyX2 tyX2_ok nmX2 (by decide) (by rw [hM]; exact nw216) rfl rfl (ji_put x9) rfl kk
theorem nrX1_199 {G : jG} {l : Launch} {M : jM} {d c n pc : Nat} {lv : List (Nat × Value)} {rest : List Value} {g : List jC} {post : Option Value → List jC → Prop} {xp : String → List jC → Prop} (hM : M.1.cls = RX1) (htr : l.stackTraces = false) {h : Nat} {c1 n1 cq nq : Nat} {fs9 : List Value} (hk9 : g[h]? = some (.inr (17, fs9))) {Q : Int32 → List jC → Prop} (hd : decode M.2.1 pc = .ok (.invokevirtual 199, 3)) (hdd : 3 + 1 ≤ d) (hw8 : (rest.map fun v => v.category).sum ≤ 8) (hw : wJ5_hashCode g c1 n1 h Q) (hcc : c1 + c ≤ cq ∧ n1 + n ≤ nq) (kk : ∀ r g', Q r g' → J G l M d c n (pc + 3) lv (.int r :: rest) g' post xp) : J G l M d cq nq pc lv (.ref h :: rest) g post xp :=
  J.callV (As := []) (hcw := by rw [hM]; exact lw_V q1201 q1202 q1203 q156 q1204) (mJ5_hashCode htr (Nat.le_refl _) hw) hd rfl ⟨17, _, _, hk9, rfl, rfl, fun _ => rfl⟩ ⟨rfl, by decide, by decide, by show _ = some 0; decide +kernel⟩ hw8 ⟨hdd, by decide⟩ hcc (fun r9 g9 h9 => by obtain ⟨r, rfl, h⟩ := h9; exact kk r g9 h) jNo.x
abbrev MX1_groundLine : jM := (yX1_groundLine, cX1_groundLine, 5, none, [])
theorem uX1_215 {G : jG} {l : Launch} {M : jM} {d c n pc : Nat} {lv : List (Nat × Value)} {rest : List Value} {post : Option Value → List jC → Prop} {xp : String → List jC → Prop} (hM : M.1.cls = RX1) (htr : l.stackTraces = false) {sh : List jH} {V : Nat → Nat → Int32} {R : Nat → Nat → Option Nat} {x : Nat} {w1 : Nat} (hT : jReg shX1 sh x) (hW1 : jReg shX2 sh w1) {c1 n1 cq nq : Nat} {Q : List jH → (Nat → Nat → Int32) → (Nat → Nat → Option Nat) → Prop} {X : String → List jH → (Nat → Nat → Int32) → (Nat → Nat → Option Nat) → Prop} (hd : decode M.2.1 pc = .ok (.invokevirtual 215, 3)) (hdd : 11 + 1 ≤ d) (hw8 : (rest.map fun v => v.category).sum ≤ 8) (hw : wX1_aHost x w1 sh V R c1 n1 Q X) (hcc : c1 + c ≤ cq ∧ n1 + n ≤ nq) (kk : ∀ sh' V' R', Q sh' V' R' → J G l M d c n (pc + 3) lv rest (mk sh' V' R') post xp) (kx : ∀ E sh' V' R', X E sh' V' R' → JX G l M d c n pc lv E (mk sh' V' R') post xp) : J G l M d cq nq pc lv (.ref w1 :: .ref x :: rest) (mk sh V R) post xp := by
  exact J.callV (As := [.ref w1]) (hcw := by rw [hM]; exact lw_V q1278 q1280 qs23 q144 q1281) (mX1_aHost htr (Nat.le_refl _) hT hW1 hw) hd rfl ⟨0, _, _, mk_at (hT.at 0 rfl), rfl, rfl, fun _ => rfl⟩ ⟨rfl, by decide, by decide, by show _ = some 1; decide +kernel⟩ hw8 ⟨hdd, by decide⟩ hcc (fun r9 g9 h9 => by obtain ⟨s9, V9, R9, rfl, rfl, h⟩ := h9; exact kk s9 V9 R9 h) (fun E9 g9 h9 => by obtain ⟨s9, V9, R9, rfl, h⟩ := h9; exact kx E9 s9 V9 R9 h)
theorem uX1_219 {G : jG} {l : Launch} {M : jM} {d c n pc : Nat} {lv : List (Nat × Value)} {rest : List Value} {post : Option Value → List jC → Prop} {xp : String → List jC → Prop} (hM : M.1.cls = RX1) (htr : l.stackTraces = false) {sh : List jH} {V : Nat → Nat → Int32} {R : Nat → Nat → Option Nat} {x : Nat} {w1 : Nat} (hT : jReg shX1 sh x) (hW1 : jReg shX2 sh w1) {c1 n1 cq nq : Nat} {Q : List jH → (Nat → Nat → Int32) → (Nat → Nat → Option Nat) → Prop} {X : String → List jH → (Nat → Nat → Int32) → (Nat → Nat → Option Nat) → Prop} (hd : decode M.2.1 pc = .ok (.invokevirtual 219, 3)) (hdd : 11 + 1 ≤ d) (hw8 : (rest.map fun v => v.category).sum ≤ 8) (hw : wX1_aGuest x w1 sh V R c1 n1 Q X) (hcc : c1 + c ≤ cq ∧ n1 + n ≤ nq) (kk : ∀ sh' V' R', Q sh' V' R' → J G l M d c n (pc + 3) lv rest (mk sh' V' R') post xp) (kx : ∀ E sh' V' R', X E sh' V' R' → JX G l M d c n pc lv E (mk sh' V' R') post xp) : J G l M d cq nq pc lv (.ref w1 :: .ref x :: rest) (mk sh V R) post xp := by
  exact J.callV (As := [.ref w1]) (hcw := by rw [hM]; exact lw_V q1312 q1314 qs27 q144 q1315) (mX1_aGuest htr (Nat.le_refl _) hT hW1 hw) hd rfl ⟨0, _, _, mk_at (hT.at 0 rfl), rfl, rfl, fun _ => rfl⟩ ⟨rfl, by decide, by decide, by show _ = some 1; decide +kernel⟩ hw8 ⟨hdd, by decide⟩ hcc (fun r9 g9 h9 => by obtain ⟨s9, V9, R9, rfl, rfl, h⟩ := h9; exact kk s9 V9 R9 h) (fun E9 g9 h9 => by obtain ⟨s9, V9, R9, rfl, h⟩ := h9; exact kx E9 s9 V9 R9 h)
theorem uX1_222 {G : jG} {l : Launch} {M : jM} {d c n pc : Nat} {lv : List (Nat × Value)} {rest : List Value} {post : Option Value → List jC → Prop} {xp : String → List jC → Prop} (hM : M.1.cls = RX1) (htr : l.stackTraces = false) {sh : List jH} {V : Nat → Nat → Int32} {R : Nat → Nat → Option Nat} {x : Nat} {p1 : Nat} (hT : jReg shX1 sh x) (hs1 : sh[p1]? = some (.inr (.inl (0, 8)))) (hg1 : jn ≤ p1) {a2 : Int32} {c1 n1 cq nq : Nat} {Q : List jH → (Nat → Nat → Int32) → (Nat → Nat → Option Nat) → Prop} {X : String → List jH → (Nat → Nat → Int32) → (Nat → Nat → Option Nat) → Prop} (hd : decode M.2.1 pc = .ok (.invokevirtual 222, 3)) (hdd : 5 + 1 ≤ d) (hw8 : (rest.map fun v => v.category).sum ≤ 8) (hw : wX1_ranks x p1 sh V R c1 n1 a2 Q X) (hcc : c1 + c ≤ cq ∧ n1 + n ≤ nq) (kk : ∀ sh' V' R', Q sh' V' R' → J G l M d c n (pc + 3) lv rest (mk sh' V' R') post xp) (kx : ∀ E sh' V' R', X E sh' V' R' → JX G l M d c n pc lv E (mk sh' V' R') post xp) : J G l M d cq nq pc lv (.int a2 :: .ref p1 :: .ref x :: rest) (mk sh V R) post xp := by
  exact J.callV (As := [.ref p1, .int a2]) (hcw := by rw [hM]; exact lw_V q1341 q1343 qs29 q144 q1344) (mX1_ranks htr (Nat.le_refl _) hT hs1 hg1 hw) hd rfl ⟨0, _, _, mk_at (hT.at 0 rfl), rfl, rfl, fun _ => rfl⟩ ⟨rfl, by decide, by decide, by show _ = some 2; decide +kernel⟩ hw8 ⟨hdd, by decide⟩ hcc (fun r9 g9 h9 => by obtain ⟨s9, V9, R9, rfl, rfl, h⟩ := h9; exact kk s9 V9 R9 h) (fun E9 g9 h9 => by obtain ⟨s9, V9, R9, rfl, h⟩ := h9; exact kx E9 s9 V9 R9 h)
-- VisitingHours.groundLine(LVisitingHours$World;)V
def wX1_groundLine_211 (x : Nat) (w1 : Nat) (Q : List jH → (Nat → Nat → Int32) → (Nat → Nat → Option Nat) → Prop) (X : String → List jH → (Nat → Nat → Int32) → (Nat → Nat → Option Nat) → Prop) (sh : List jH) (V : Nat → Nat → Int32) (R : Nat → Nat → Option Nat) (c : Nat) (n : Nat) (x4 : Int32) : Prop :=
  ((x4 = (0 : Int32) → (∃ c1262 n1262 c2262 n2262 : Nat, c1262 + c2262 ≤ c ∧ n1262 + n2262 ≤ n ∧ (wX1_aHost x w1 sh V R c1262 n1262 (fun sh262 V262 R262 => (jReg shX1 sh262 x ∧ (jReg shX2 sh262 w1 ∧ Q sh262 V262 R262))) (fun E9 shx Vx Rx => X E9 shx Vx Rx)))) ∧ (¬ x4 = (0 : Int32) → ((x4 = (1 : Int32) → (∃ c1268 n1268 c2268 n2268 : Nat, c1268 + c2268 ≤ c ∧ n1268 + n2268 ≤ n ∧ (wX1_aGuest x w1 sh V R c1268 n1268 (fun sh268 V268 R268 => (jReg shX1 sh268 x ∧ (jReg shX2 sh268 w1 ∧ Q sh268 V268 R268))) (fun E9 shx Vx Rx => X E9 shx Vx Rx)))) ∧ (¬ x4 = (1 : Int32) → ((x4 = (2 : Int32) → (∃ c1285 n1285 c2285 n2285 : Nat, c1285 + c2285 ≤ c ∧ n1285 + n2285 ≤ n ∧ (wX3_number (x + 109) sh V R c1285 n1285 (0 : Int32) ((V w1 1) - (1 : Int32)) (fun r285 sh285 V285 R285 => (jReg shX1 sh285 x ∧ (jReg shX2 sh285 w1 ∧ (vp_in r285 8 ∧ (∃ c1293 n1293 c2293 n2293 : Nat, c1293 + c2293 ≤ c2285 ∧ n1293 + n2293 ≤ n2285 ∧ (wX1_ranks x ((w1 + 8) + 1 + r285.toNatClampNeg) sh285 V285 R285 c1293 n1293 (V285 w1 2) (fun sh293 V293 R293 => (jReg shX1 sh293 x ∧ (jReg shX2 sh293 w1 ∧ Q sh293 V293 R293))) (fun E9 shx Vx Rx => X E9 shx Vx Rx))))))) (fun E9 shx Vx Rx => X E9 shx Vx Rx)))) ∧ (¬ x4 = (2 : Int32) → ((x4 = (3 : Int32) → (∃ c1310 n1310 c2310 n2310 : Nat, c1310 + c2310 ≤ c ∧ n1310 + n2310 ≤ n ∧ (wX3_number (x + 109) sh V R c1310 n1310 (0 : Int32) ((V w1 2) - (1 : Int32)) (fun r310 sh310 V310 R310 => (jReg shX1 sh310 x ∧ (jReg shX2 sh310 w1 ∧ (vp_in r310 8 ∧ (∃ c1318 n1318 c2318 n2318 : Nat, c1318 + c2318 ≤ c2310 ∧ n1318 + n2318 ≤ n2310 ∧ (wX1_ranks x ((w1 + 17) + 1 + r310.toNatClampNeg) sh310 V310 R310 c1318 n1318 (V310 w1 1) (fun sh318 V318 R318 => (jReg shX1 sh318 x ∧ (jReg shX2 sh318 w1 ∧ Q sh318 V318 R318))) (fun E9 shx Vx Rx => X E9 shx Vx Rx))))))) (fun E9 shx Vx Rx => X E9 shx Vx Rx)))) ∧ (¬ x4 = (3 : Int32) → ((x4 = (4 : Int32) → (∃ c1327 n1327 c2327 n2327 : Nat, c1327 + c2327 ≤ c ∧ n1327 + n2327 ≤ n ∧ (wX3_number (x + 109) sh V R c1327 n1327 (0 : Int32) (100 : Int32) (fun r327 sh327 V327 R327 => (jReg shX1 sh327 x ∧ (jReg shX2 sh327 w1 ∧ Q sh327 (vset V327 w1 3 r327) R327))) (fun E9 shx Vx Rx => X E9 shx Vx Rx)))) ∧ (¬ x4 = (4 : Int32) → ((x4 = (5 : Int32) → (∃ c1340 n1340 c2340 n2340 : Nat, c1340 + c2340 ≤ c ∧ n1340 + n2340 ≤ n ∧ (wX3_number (x + 109) sh V R c1340 n1340 (0 : Int32) (999 : Int32) (fun r340 sh340 V340 R340 => (jReg shX1 sh340 x ∧ (jReg shX2 sh340 w1 ∧ Q sh340 (vset V340 w1 6 r340) R340))) (fun E9 shx Vx Rx => X E9 shx Vx Rx)))) ∧ (¬ x4 = (5 : Int32) → ((x4 = (6 : Int32) → (∃ c1349 n1349 c2349 n2349 : Nat, c1349 + c2349 ≤ c ∧ n1349 + n2349 ≤ n ∧ (wX1_marksTold x sh V R c1349 n1349 (fun r349 sh349 V349 R349 => (jReg shX1 sh349 x ∧ (jReg shX2 sh349 w1 ∧ Q sh349 (vset V349 w1 4 r349) R349))) (fun E9 shx Vx Rx => X E9 shx Vx Rx)))) ∧ (¬ x4 = (6 : Int32) → ((x4 = (7 : Int32) → (∃ c1358 n1358 c2358 n2358 : Nat, c1358 + c2358 ≤ c ∧ n1358 + n2358 ≤ n ∧ (wX1_marksTold x sh V R c1358 n1358 (fun r358 sh358 V358 R358 => (jReg shX1 sh358 x ∧ (jReg shX2 sh358 w1 ∧ Q sh358 (vset V358 w1 5 r358) R358))) (fun E9 shx Vx Rx => X E9 shx Vx Rx)))) ∧ (¬ x4 = (7 : Int32) → (∃ c1366 n1366 c2366 n2366 : Nat, c1366 + c2366 ≤ c ∧ n1366 + n2366 ≤ n ∧ (wX3_wrong (x + 109) sh V R c1366 n1366 (fun r366 sh366 V366 R366 => (jReg shX1 sh366 x ∧ (jReg shX2 sh366 w1 ∧ (∃ b369_2, r366 = some b369_2 ∧ (∃ fs369 : List Value, (mk sh366 V366 R366)[b369_2]? = some (.inr (6, fs369)) ∧ jn ≤ b369_2 ∧ X "VisitingHours$Wrong" sh366 V366 R366)))))))))))))))))))))))
theorem rX1_groundLine_211 {G : jG} {l : Launch} {d : Nat} (htr : l.stackTraces = false) (hdd : 12 ≤ d) {x : Nat} {w1 : Nat} {Q : List jH → (Nat → Nat → Int32) → (Nat → Nat → Option Nat) → Prop} {X : String → List jH → (Nat → Nat → Int32) → (Nat → Nat → Option Nat) → Prop} {sh : List jH} {V : Nat → Nat → Int32} {R : Nat → Nat → Option Nat} {c : Nat} {n : Nat} {x4 : Int32} (hT : jReg shX1 sh x) (hW1 : jReg shX2 sh w1) (hw : wX1_groundLine_211 x w1 Q X sh V R c n x4) : J G l MX1_groundLine d c n 211 [(0, .ref x), (1, .ref w1), (2, .ref (x + 109)), (4, .int x4)] [] (mk sh V R) (jSv Q) (jSx X) := by
  unfold wX1_groundLine_211 at hw
  refine J.iload 3 dX1_groundLine_211 rfl ?_
  by_cases c213_0 : x4 = (0 : Int32)
  · obtain ⟨hw, -⟩ := hw
    specialize hw c213_0
    refine J.tableIn 260 dX1_groundLine_213 (by rw [c213_0]; decide) (by rw [c213_0]; decide) (by rw [c213_0]; rfl) (by decide) ?_
    refine J.aload_n 0 dX1_groundLine_260 rfl ?_
    refine J.aload_n 1 dX1_groundLine_261 rfl ?_
    obtain ⟨c1262, n1262, c2262, n2262, hc262, hd262, hw⟩ := hw
    refine uX1_215 rfl htr hT hW1 dX1_groundLine_262 (by omega) (Nat.le_of_ble_eq_true rfl) hw ⟨hc262, hd262⟩ ?_ ?_
    rotate_left
    · exact fun E9 shx Vx Rx h9 => JX.out (by rfl) ⟨_, _, _, rfl, h9⟩
    clear hw
    intro sh262 V262 R262 hw
    clear hW1 hT
    obtain ⟨hT, hW1, hw⟩ := hw
    exact J.vret rfl dX1_groundLine_265 ⟨_, _, _, rfl, rfl, hw⟩
  · obtain ⟨-, hw⟩ := hw
    specialize hw c213_0
    by_cases c213_1 : x4 = (1 : Int32)
    · obtain ⟨hw, -⟩ := hw
      specialize hw c213_1
      refine J.tableIn 266 dX1_groundLine_213 (by rw [c213_1]; decide) (by rw [c213_1]; decide) (by rw [c213_1]; rfl) (by decide) ?_
      refine J.aload_n 0 dX1_groundLine_266 rfl ?_
      refine J.aload_n 1 dX1_groundLine_267 rfl ?_
      obtain ⟨c1268, n1268, c2268, n2268, hc268, hd268, hw⟩ := hw
      refine uX1_219 rfl htr hT hW1 dX1_groundLine_268 (by omega) (Nat.le_of_ble_eq_true rfl) hw ⟨hc268, hd268⟩ ?_ ?_
      rotate_left
      · exact fun E9 shx Vx Rx h9 => JX.out (by rfl) ⟨_, _, _, rfl, h9⟩
      clear hw
      intro sh268 V268 R268 hw
      clear hW1 hT
      obtain ⟨hT, hW1, hw⟩ := hw
      exact J.vret rfl dX1_groundLine_271 ⟨_, _, _, rfl, rfl, hw⟩
    · obtain ⟨-, hw⟩ := hw
      specialize hw c213_1
      by_cases c213_2 : x4 = (2 : Int32)
      · obtain ⟨hw, -⟩ := hw
        specialize hw c213_2
        refine J.tableIn 272 dX1_groundLine_213 (by rw [c213_2]; decide) (by rw [c213_2]; decide) (by rw [c213_2]; rfl) (by decide) ?_
        refine J.aload_n 0 dX1_groundLine_272 rfl ?_
        refine J.aload_n 1 dX1_groundLine_273 rfl ?_
        refine fgX1_155 rfl hW1 dX1_groundLine_274 ?_
        refine J.aload_n 2 dX1_groundLine_277 rfl ?_
        refine J.iconst (v := (0 : Int32)) dX1_groundLine_278 (by decide) ?_
        refine J.aload_n 1 dX1_groundLine_279 rfl ?_
        refine fgX1_132 rfl hW1 dX1_groundLine_280 ?_
        refine J.iconst (v := (1 : Int32)) dX1_groundLine_283 (by decide) ?_
        refine J.isub dX1_groundLine_284 ?_
        obtain ⟨c1285, n1285, c2285, n2285, hc285, hd285, hw⟩ := hw
        refine uX1_104 rfl htr (hT.sub 109 2 rfl) dX1_groundLine_285 (by omega) (Nat.le_of_ble_eq_true rfl) hw ⟨hc285, hd285⟩ ?_ ?_
        rotate_left
        · exact fun E9 shx Vx Rx h9 => JX.out (by rfl) ⟨_, _, _, rfl, h9⟩
        clear hw
        intro r285 sh285 V285 R285 hw
        clear hW1 hT
        obtain ⟨hT, hW1, hw⟩ := hw
        obtain ⟨h288, hw⟩ := hw
        refine JV.grid dX1_groundLine_288 (hW1.ge 8) (hW1.at 8 rfl) h288 ?_
        refine J.aload_n 1 dX1_groundLine_289 rfl ?_
        refine fgX1_168 rfl hW1 dX1_groundLine_290 ?_
        obtain ⟨c1293, n1293, c2293, n2293, hc293, hd293, hw⟩ := hw
        refine uX1_222 rfl htr hT (jrowL hW1 h288) (jrowg hW1.1) dX1_groundLine_293 (by omega) (Nat.le_of_ble_eq_true rfl) hw ⟨hc293, hd293⟩ ?_ ?_
        rotate_left
        · exact fun E9 shx Vx Rx h9 => JX.out (by rfl) ⟨_, _, _, rfl, h9⟩
        clear hw
        intro sh293 V293 R293 hw
        clear hW1 hT
        obtain ⟨hT, hW1, hw⟩ := hw
        exact J.vret rfl dX1_groundLine_296 ⟨_, _, _, rfl, rfl, hw⟩
      · obtain ⟨-, hw⟩ := hw
        specialize hw c213_2
        by_cases c213_3 : x4 = (3 : Int32)
        · obtain ⟨hw, -⟩ := hw
          specialize hw c213_3
          refine J.tableIn 297 dX1_groundLine_213 (by rw [c213_3]; decide) (by rw [c213_3]; decide) (by rw [c213_3]; rfl) (by decide) ?_
          refine J.aload_n 0 dX1_groundLine_297 rfl ?_
          refine J.aload_n 1 dX1_groundLine_298 rfl ?_
          refine fgX1_165 rfl hW1 dX1_groundLine_299 ?_
          refine J.aload_n 2 dX1_groundLine_302 rfl ?_
          refine J.iconst (v := (0 : Int32)) dX1_groundLine_303 (by decide) ?_
          refine J.aload_n 1 dX1_groundLine_304 rfl ?_
          refine fgX1_168 rfl hW1 dX1_groundLine_305 ?_
          refine J.iconst (v := (1 : Int32)) dX1_groundLine_308 (by decide) ?_
          refine J.isub dX1_groundLine_309 ?_
          obtain ⟨c1310, n1310, c2310, n2310, hc310, hd310, hw⟩ := hw
          refine uX1_104 rfl htr (hT.sub 109 2 rfl) dX1_groundLine_310 (by omega) (Nat.le_of_ble_eq_true rfl) hw ⟨hc310, hd310⟩ ?_ ?_
          rotate_left
          · exact fun E9 shx Vx Rx h9 => JX.out (by rfl) ⟨_, _, _, rfl, h9⟩
          clear hw
          intro r310 sh310 V310 R310 hw
          clear hW1 hT
          obtain ⟨hT, hW1, hw⟩ := hw
          obtain ⟨h313, hw⟩ := hw
          refine JV.grid dX1_groundLine_313 (hW1.ge 17) (hW1.at 17 rfl) h313 ?_
          refine J.aload_n 1 dX1_groundLine_314 rfl ?_
          refine fgX1_132 rfl hW1 dX1_groundLine_315 ?_
          obtain ⟨c1318, n1318, c2318, n2318, hc318, hd318, hw⟩ := hw
          refine uX1_222 rfl htr hT (jrowV hW1 h313) (jrowg hW1.1) dX1_groundLine_318 (by omega) (Nat.le_of_ble_eq_true rfl) hw ⟨hc318, hd318⟩ ?_ ?_
          rotate_left
          · exact fun E9 shx Vx Rx h9 => JX.out (by rfl) ⟨_, _, _, rfl, h9⟩
          clear hw
          intro sh318 V318 R318 hw
          clear hW1 hT
          obtain ⟨hT, hW1, hw⟩ := hw
          exact J.vret rfl dX1_groundLine_321 ⟨_, _, _, rfl, rfl, hw⟩
        · obtain ⟨-, hw⟩ := hw
          specialize hw c213_3
          by_cases c213_4 : x4 = (4 : Int32)
          · obtain ⟨hw, -⟩ := hw
            specialize hw c213_4
            refine J.tableIn 322 dX1_groundLine_213 (by rw [c213_4]; decide) (by rw [c213_4]; decide) (by rw [c213_4]; rfl) (by decide) ?_
            refine J.aload_n 1 dX1_groundLine_322 rfl ?_
            refine J.aload_n 2 dX1_groundLine_323 rfl ?_
            refine J.iconst (v := (0 : Int32)) dX1_groundLine_324 (by decide) ?_
            refine J.bipush (v := (100 : Int32)) dX1_groundLine_325 (by decide) ?_
            obtain ⟨c1327, n1327, c2327, n2327, hc327, hd327, hw⟩ := hw
            refine uX1_104 rfl htr (hT.sub 109 2 rfl) dX1_groundLine_327 (by omega) (Nat.le_of_ble_eq_true rfl) hw ⟨hc327, hd327⟩ ?_ ?_
            rotate_left
            · exact fun E9 shx Vx Rx h9 => JX.out (by rfl) ⟨_, _, _, rfl, h9⟩
            clear hw
            intro r327 sh327 V327 R327 hw
            clear hW1 hT
            obtain ⟨hT, hW1, hw⟩ := hw
            refine fpX1_225 rfl hW1 dX1_groundLine_330 ?_
            exact J.vret rfl dX1_groundLine_333 ⟨_, _, _, rfl, rfl, hw⟩
          · obtain ⟨-, hw⟩ := hw
            specialize hw c213_4
            by_cases c213_5 : x4 = (5 : Int32)
            · obtain ⟨hw, -⟩ := hw
              specialize hw c213_5
              refine J.tableIn 334 dX1_groundLine_213 (by rw [c213_5]; decide) (by rw [c213_5]; decide) (by rw [c213_5]; rfl) (by decide) ?_
              refine J.aload_n 1 dX1_groundLine_334 rfl ?_
              refine J.aload_n 2 dX1_groundLine_335 rfl ?_
              refine J.iconst (v := (0 : Int32)) dX1_groundLine_336 (by decide) ?_
              refine J.sipush (v := (999 : Int32)) dX1_groundLine_337 (by decide) ?_
              obtain ⟨c1340, n1340, c2340, n2340, hc340, hd340, hw⟩ := hw
              refine uX1_104 rfl htr (hT.sub 109 2 rfl) dX1_groundLine_340 (by omega) (Nat.le_of_ble_eq_true rfl) hw ⟨hc340, hd340⟩ ?_ ?_
              rotate_left
              · exact fun E9 shx Vx Rx h9 => JX.out (by rfl) ⟨_, _, _, rfl, h9⟩
              clear hw
              intro r340 sh340 V340 R340 hw
              clear hW1 hT
              obtain ⟨hT, hW1, hw⟩ := hw
              refine fpX1_227 rfl hW1 dX1_groundLine_343 ?_
              exact J.vret rfl dX1_groundLine_346 ⟨_, _, _, rfl, rfl, hw⟩
            · obtain ⟨-, hw⟩ := hw
              specialize hw c213_5
              by_cases c213_6 : x4 = (6 : Int32)
              · obtain ⟨hw, -⟩ := hw
                specialize hw c213_6
                refine J.tableIn 347 dX1_groundLine_213 (by rw [c213_6]; decide) (by rw [c213_6]; decide) (by rw [c213_6]; rfl) (by decide) ?_
                refine J.aload_n 1 dX1_groundLine_347 rfl ?_
                refine J.aload_n 0 dX1_groundLine_348 rfl ?_
                obtain ⟨c1349, n1349, c2349, n2349, hc349, hd349, hw⟩ := hw
                refine uX1_186 rfl htr hT dX1_groundLine_349 (by omega) (Nat.le_of_ble_eq_true rfl) hw ⟨hc349, hd349⟩ ?_ ?_
                rotate_left
                · exact fun E9 shx Vx Rx h9 => JX.out (by rfl) ⟨_, _, _, rfl, h9⟩
                clear hw
                intro r349 sh349 V349 R349 hw
                clear hW1 hT
                obtain ⟨hT, hW1, hw⟩ := hw
                refine fpX1_229 rfl hW1 dX1_groundLine_352 ?_
                exact J.vret rfl dX1_groundLine_355 ⟨_, _, _, rfl, rfl, hw⟩
              · obtain ⟨-, hw⟩ := hw
                specialize hw c213_6
                by_cases c213_7 : x4 = (7 : Int32)
                · obtain ⟨hw, -⟩ := hw
                  specialize hw c213_7
                  refine J.tableIn 356 dX1_groundLine_213 (by rw [c213_7]; decide) (by rw [c213_7]; decide) (by rw [c213_7]; rfl) (by decide) ?_
                  refine J.aload_n 1 dX1_groundLine_356 rfl ?_
                  refine J.aload_n 0 dX1_groundLine_357 rfl ?_
                  obtain ⟨c1358, n1358, c2358, n2358, hc358, hd358, hw⟩ := hw
                  refine uX1_186 rfl htr hT dX1_groundLine_358 (by omega) (Nat.le_of_ble_eq_true rfl) hw ⟨hc358, hd358⟩ ?_ ?_
                  rotate_left
                  · exact fun E9 shx Vx Rx h9 => JX.out (by rfl) ⟨_, _, _, rfl, h9⟩
                  clear hw
                  intro r358 sh358 V358 R358 hw
                  clear hW1 hT
                  obtain ⟨hT, hW1, hw⟩ := hw
                  refine fpX1_231 rfl hW1 dX1_groundLine_361 ?_
                  exact J.vret rfl dX1_groundLine_364 ⟨_, _, _, rfl, rfl, hw⟩
                · obtain ⟨-, hw⟩ := hw
                  specialize hw c213_7
                  refine J.tableOut 365 dX1_groundLine_213 (jsw8 c213_0 c213_1 c213_2 c213_3 c213_4 c213_5 c213_6 c213_7) (by decide) ?_
                  refine J.aload_n 2 dX1_groundLine_365 rfl ?_
                  obtain ⟨c1366, n1366, c2366, n2366, hc366, hd366, hw⟩ := hw
                  refine uX1_96 rfl htr (hT.sub 109 2 rfl) dX1_groundLine_366 (by omega) (Nat.le_of_ble_eq_true rfl) hw ⟨hc366, hd366⟩ ?_
                  clear hw
                  intro r366 sh366 V366 R366 hw
                  clear hW1 hT
                  obtain ⟨hT, hW1, hw⟩ := hw
                  obtain ⟨b369_2, rfl, hw⟩ := hw
                  obtain ⟨fs369, hk369, hn369, hw⟩ := hw
                  exact J.athrow dX1_groundLine_369 hn369 hk369 rfl rfl (JX.out (by rfl) ⟨_, _, _, rfl, hw⟩)
def wX1_groundLine (x : Nat) (w1 : Nat) (sh : List jH) (V : Nat → Nat → Int32) (R : Nat → Nat → Option Nat) (c : Nat) (n : Nat) (Q : List jH → (Nat → Nat → Int32) → (Nat → Nat → Option Nat) → Prop) (X : String → List jH → (Nat → Nat → Int32) → (Nat → Nat → Option Nat) → Prop) : Prop :=
  (∃ c16 n16 c26 n26 : Nat, c16 + c26 ≤ c ∧ n16 + n26 ≤ n ∧ (wX3_word (x + 109) sh V R c16 n16 (fun r6 sh6 V6 R6 => (jReg shX1 sh6 x ∧ (jReg shX2 sh6 w1 ∧ (∃ b14_1, r6 = some b14_1 ∧ (∃ fs14 : List Value, (mk sh6 V6 R6)[b14_1]? = some (.inr (17, fs14)) ∧ (∃ c114 n114 c214 n214 : Nat, c114 + c214 ≤ c26 ∧ n114 + n214 ≤ n26 ∧ wJ5_hashCode (mk sh6 V6 R6) c114 n114 b14_1 (fun r14 g14 => (∃ (sh14 : List jH) (V14 : Nat → Nat → Int32) (R14 : Nat → Nat → Option Nat), g14 = mk sh14 V14 R14 ∧ (jReg shX1 sh14 x ∧ (jReg shX2 sh14 w1 ∧ ((r14 = (3016384 : Int32) → (∃ fs201 : List Value, (mk sh14 V14 R14)[b14_1]? = some (.inr (17, fs201)) ∧ wJ5_equals (mk sh14 V14 R14) b14_1 14 (fun r201 => ((r201 = 0 → wX1_groundLine_211 x w1 Q X sh14 V14 R14 c214 n214 (-1 : Int32)) ∧ (¬ r201 = 0 → wX1_groundLine_211 x w1 Q X sh14 V14 R14 c214 n214 (7 : Int32)))))) ∧ (¬ r14 = (3016384 : Int32) → ((r14 = (3208616 : Int32) → (∃ fs95 : List Value, (mk sh14 V14 R14)[b14_1]? = some (.inr (17, fs95)) ∧ wJ5_equals (mk sh14 V14 R14) b14_1 0 (fun r95 => ((r95 = 0 → wX1_groundLine_211 x w1 Q X sh14 V14 R14 c214 n214 (-1 : Int32)) ∧ (¬ r95 = 0 → wX1_groundLine_211 x w1 Q X sh14 V14 R14 c214 n214 (0 : Int32)))))) ∧ (¬ r14 = (3208616 : Int32) → ((r14 = (3492756 : Int32) → (∃ fs155 : List Value, (mk sh14 V14 R14)[b14_1]? = some (.inr (17, fs155)) ∧ wJ5_equals (mk sh14 V14 R14) b14_1 8 (fun r155 => ((r155 = 0 → wX1_groundLine_211 x w1 Q X sh14 V14 R14 c214 n214 (-1 : Int32)) ∧ (¬ r155 = 0 → wX1_groundLine_211 x w1 Q X sh14 V14 R14 c214 n214 (4 : Int32)))))) ∧ (¬ r14 = (3492756 : Int32) → ((r14 = (3645428 : Int32) → (∃ fs170 : List Value, (mk sh14 V14 R14)[b14_1]? = some (.inr (17, fs170)) ∧ wJ5_equals (mk sh14 V14 R14) b14_1 10 (fun r170 => ((r170 = 0 → wX1_groundLine_211 x w1 Q X sh14 V14 R14 c214 n214 (-1 : Int32)) ∧ (¬ r170 = 0 → wX1_groundLine_211 x w1 Q X sh14 V14 R14 c214 n214 (5 : Int32)))))) ∧ (¬ r14 = (3645428 : Int32) → ((r14 = (98708952 : Int32) → (∃ fs110 : List Value, (mk sh14 V14 R14)[b14_1]? = some (.inr (17, fs110)) ∧ wJ5_equals (mk sh14 V14 R14) b14_1 2 (fun r110 => ((r110 = 0 → wX1_groundLine_211 x w1 Q X sh14 V14 R14 c214 n214 (-1 : Int32)) ∧ (¬ r110 = 0 → wX1_groundLine_211 x w1 Q X sh14 V14 R14 c214 n214 (1 : Int32)))))) ∧ (¬ r14 = (98708952 : Int32) → ((r14 = (102974396 : Int32) → (∃ fs125 : List Value, (mk sh14 V14 R14)[b14_1]? = some (.inr (17, fs125)) ∧ wJ5_equals (mk sh14 V14 R14) b14_1 4 (fun r125 => ((r125 = 0 → wX1_groundLine_211 x w1 Q X sh14 V14 R14 c214 n214 (-1 : Int32)) ∧ (¬ r125 = 0 → wX1_groundLine_211 x w1 Q X sh14 V14 R14 c214 n214 (2 : Int32)))))) ∧ (¬ r14 = (102974396 : Int32) → ((r14 = (103163713 : Int32) → (∃ fs140 : List Value, (mk sh14 V14 R14)[b14_1]? = some (.inr (17, fs140)) ∧ wJ5_equals (mk sh14 V14 R14) b14_1 6 (fun r140 => ((r140 = 0 → wX1_groundLine_211 x w1 Q X sh14 V14 R14 c214 n214 (-1 : Int32)) ∧ (¬ r140 = 0 → wX1_groundLine_211 x w1 Q X sh14 V14 R14 c214 n214 (3 : Int32)))))) ∧ (¬ r14 = (103163713 : Int32) → ((r14 = (104696477 : Int32) → (∃ fs185 : List Value, (mk sh14 V14 R14)[b14_1]? = some (.inr (17, fs185)) ∧ wJ5_equals (mk sh14 V14 R14) b14_1 12 (fun r185 => ((r185 = 0 → wX1_groundLine_211 x w1 Q X sh14 V14 R14 c214 n214 (-1 : Int32)) ∧ (¬ r185 = 0 → wX1_groundLine_211 x w1 Q X sh14 V14 R14 c214 n214 (6 : Int32)))))) ∧ (¬ r14 = (104696477 : Int32) → wX1_groundLine_211 x w1 Q X sh14 V14 R14 c214 n214 (-1 : Int32)))))))))))))))))))))))))))))
theorem mX1_groundLine {G : jG} {l : Launch} {d : Nat} (htr : l.stackTraces = false) (hdd : 12 ≤ d) {sh : List jH} {V : Nat → Nat → Int32} {R : Nat → Nat → Option Nat} {c : Nat} {n : Nat} {x : Nat} {w1 : Nat} (hT : jReg shX1 sh x) (hW1 : jReg shX2 sh w1) {Q : List jH → (Nat → Nat → Int32) → (Nat → Nat → Option Nat) → Prop} {X : String → List jH → (Nat → Nat → Int32) → (Nat → Nat → Option Nat) → Prop} (hw : wX1_groundLine x w1 sh V R c n Q X) : JM G l MX1_groundLine d c n [.ref x, .ref w1] (mk sh V R) (jSv Q) (jSx X) := by
  refine JM.intro (by decide) rfl htr (Nat.le_of_ble_eq_true rfl) ?_
  show J G l MX1_groundLine d c n 0 [(0, .ref x), (1, .ref w1)] [] (mk sh V R) _ _
  unfold wX1_groundLine at hw
  refine J.aload_n 0 dX1_groundLine_0 rfl ?_
  refine fgX1_25 rfl hT dX1_groundLine_1 ?_
  refine J.astore_n (lv' := [(2, .ref (x + 109)), (0, .ref x), (1, .ref w1)]) dX1_groundLine_4 (by decide) rfl ?_
  refine J.aload_n 0 dX1_groundLine_5 rfl ?_
  obtain ⟨c16, n16, c26, n26, hc6, hd6, hw⟩ := hw
  refine uX1_86 rfl htr (hT.sub 109 2 rfl) dX1_groundLine_6 (by omega) (Nat.le_of_ble_eq_true rfl) hw ⟨hc6, hd6⟩ ?_
  clear hw
  intro r6 sh6 V6 R6 hw
  clear hW1 hT
  obtain ⟨hT, hW1, hw⟩ := hw
  refine J.astoreQ_n (lv' := [(3, va_rf r6), (2, .ref (x + 109)), (0, .ref x), (1, .ref w1)]) dX1_groundLine_9 (by decide) rfl ?_
  refine J.iconst (v := (-1 : Int32)) dX1_groundLine_10 (by decide) ?_
  refine J.istore (lv' := [(4, .int (-1 : Int32)), (3, va_rf r6), (2, .ref (x + 109)), (0, .ref x), (1, .ref w1)]) dX1_groundLine_11 (by decide) (by unfold jst1; simp only [List.filter_cons, List.filter_nil, va_rf_cat]; rfl) ?_
  refine J.aloadQ_n 1 dX1_groundLine_13 rfl ?_
  obtain ⟨b14_1, rfl, hw⟩ := hw
  obtain ⟨fs14, hk14, hw⟩ := hw
  obtain ⟨c114, n114, c214, n214, hc14, hd14, hw⟩ := hw
  refine nrX1_199 rfl htr hk14 dX1_groundLine_14 (by omega) (Nat.le_of_ble_eq_true rfl) hw ⟨hc14, hd14⟩ ?_
  clear hw
  intro r14 g14 hw
  obtain ⟨sh14, V14, R14, rfl, hw⟩ := hw
  clear hW1 hT
  obtain ⟨hT, hW1, hw⟩ := hw
  by_cases c17_3016384 : r14 = (3016384 : Int32)
  · obtain ⟨hw, -⟩ := hw
    specialize hw c17_3016384
    refine J.lookup (off := 181) 198 dX1_groundLine_17 (by decide) (by rw [c17_3016384]; decide) (by decide) ?_
    refine J.aload_n 1 dX1_groundLine_198 rfl ?_
    refine J.ldcS dX1_groundLine_199 jl_1277 (by decide) ?_
    obtain ⟨fs201, hk201, hw⟩ := hw
    refine nrX1_90 rfl htr hk201 dX1_groundLine_201 (by omega) (Nat.le_of_ble_eq_true rfl) hw ?_
    clear hw
    intro r201 hw
    refine J.if_eq 211 dX1_groundLine_204 (by decide) ⟨fun c204 => ?_, fun c204 => ?_⟩
    · obtain ⟨hw, -⟩ := hw
      specialize hw c204
      exact J.pick [3, 4, 2, 0] rfl (rX1_groundLine_211 htr hdd hT hW1 hw)
    · obtain ⟨-, hw⟩ := hw
      specialize hw c204
      refine J.bipush (v := (7 : Int32)) dX1_groundLine_207 (by decide) ?_
      refine J.istore (lv' := [(4, .int (7 : Int32)), (3, .ref b14_1), (2, .ref (x + 109)), (0, .ref x), (1, .ref w1)]) dX1_groundLine_209 (by decide) rfl ?_
      exact J.pick [3, 4, 2, 0] rfl (rX1_groundLine_211 htr hdd hT hW1 hw)
  · obtain ⟨-, hw⟩ := hw
    specialize hw c17_3016384
    by_cases c17_3208616 : r14 = (3208616 : Int32)
    · obtain ⟨hw, -⟩ := hw
      specialize hw c17_3208616
      refine J.lookup (off := 75) 92 dX1_groundLine_17 (by decide) (by rw [c17_3208616]; decide) (by decide) ?_
      refine J.aload_n 1 dX1_groundLine_92 rfl ?_
      refine J.ldcS dX1_groundLine_93 jl_1262 (by decide) ?_
      obtain ⟨fs95, hk95, hw⟩ := hw
      refine nrX1_90 rfl htr hk95 dX1_groundLine_95 (by omega) (Nat.le_of_ble_eq_true rfl) hw ?_
      clear hw
      intro r95 hw
      refine J.if_eq 211 dX1_groundLine_98 (by decide) ⟨fun c98 => ?_, fun c98 => ?_⟩
      · obtain ⟨hw, -⟩ := hw
        specialize hw c98
        exact J.pick [3, 4, 2, 0] rfl (rX1_groundLine_211 htr hdd hT hW1 hw)
      · obtain ⟨-, hw⟩ := hw
        specialize hw c98
        refine J.iconst (v := (0 : Int32)) dX1_groundLine_101 (by decide) ?_
        refine J.istore (lv' := [(4, .int (0 : Int32)), (3, .ref b14_1), (2, .ref (x + 109)), (0, .ref x), (1, .ref w1)]) dX1_groundLine_102 (by decide) rfl ?_
        refine J.goto 211 dX1_groundLine_104 (by decide) ?_
        exact J.pick [3, 4, 2, 0] rfl (rX1_groundLine_211 htr hdd hT hW1 hw)
    · obtain ⟨-, hw⟩ := hw
      specialize hw c17_3208616
      by_cases c17_3492756 : r14 = (3492756 : Int32)
      · obtain ⟨hw, -⟩ := hw
        specialize hw c17_3492756
        refine J.lookup (off := 135) 152 dX1_groundLine_17 (by decide) (by rw [c17_3492756]; decide) (by decide) ?_
        refine J.aload_n 1 dX1_groundLine_152 rfl ?_
        refine J.ldcS dX1_groundLine_153 jl_1274 (by decide) ?_
        obtain ⟨fs155, hk155, hw⟩ := hw
        refine nrX1_90 rfl htr hk155 dX1_groundLine_155 (by omega) (Nat.le_of_ble_eq_true rfl) hw ?_
        clear hw
        intro r155 hw
        refine J.if_eq 211 dX1_groundLine_158 (by decide) ⟨fun c158 => ?_, fun c158 => ?_⟩
        · obtain ⟨hw, -⟩ := hw
          specialize hw c158
          exact J.pick [3, 4, 2, 0] rfl (rX1_groundLine_211 htr hdd hT hW1 hw)
        · obtain ⟨-, hw⟩ := hw
          specialize hw c158
          refine J.iconst (v := (4 : Int32)) dX1_groundLine_161 (by decide) ?_
          refine J.istore (lv' := [(4, .int (4 : Int32)), (3, .ref b14_1), (2, .ref (x + 109)), (0, .ref x), (1, .ref w1)]) dX1_groundLine_162 (by decide) rfl ?_
          refine J.goto 211 dX1_groundLine_164 (by decide) ?_
          exact J.pick [3, 4, 2, 0] rfl (rX1_groundLine_211 htr hdd hT hW1 hw)
      · obtain ⟨-, hw⟩ := hw
        specialize hw c17_3492756
        by_cases c17_3645428 : r14 = (3645428 : Int32)
        · obtain ⟨hw, -⟩ := hw
          specialize hw c17_3645428
          refine J.lookup (off := 150) 167 dX1_groundLine_17 (by decide) (by rw [c17_3645428]; decide) (by decide) ?_
          refine J.aload_n 1 dX1_groundLine_167 rfl ?_
          refine J.ldcS dX1_groundLine_168 jl_1275 (by decide) ?_
          obtain ⟨fs170, hk170, hw⟩ := hw
          refine nrX1_90 rfl htr hk170 dX1_groundLine_170 (by omega) (Nat.le_of_ble_eq_true rfl) hw ?_
          clear hw
          intro r170 hw
          refine J.if_eq 211 dX1_groundLine_173 (by decide) ⟨fun c173 => ?_, fun c173 => ?_⟩
          · obtain ⟨hw, -⟩ := hw
            specialize hw c173
            exact J.pick [3, 4, 2, 0] rfl (rX1_groundLine_211 htr hdd hT hW1 hw)
          · obtain ⟨-, hw⟩ := hw
            specialize hw c173
            refine J.iconst (v := (5 : Int32)) dX1_groundLine_176 (by decide) ?_
            refine J.istore (lv' := [(4, .int (5 : Int32)), (3, .ref b14_1), (2, .ref (x + 109)), (0, .ref x), (1, .ref w1)]) dX1_groundLine_177 (by decide) rfl ?_
            refine J.goto 211 dX1_groundLine_179 (by decide) ?_
            exact J.pick [3, 4, 2, 0] rfl (rX1_groundLine_211 htr hdd hT hW1 hw)
        · obtain ⟨-, hw⟩ := hw
          specialize hw c17_3645428
          by_cases c17_98708952 : r14 = (98708952 : Int32)
          · obtain ⟨hw, -⟩ := hw
            specialize hw c17_98708952
            refine J.lookup (off := 90) 107 dX1_groundLine_17 (by decide) (by rw [c17_98708952]; decide) (by decide) ?_
            refine J.aload_n 1 dX1_groundLine_107 rfl ?_
            refine J.ldcS dX1_groundLine_108 jl_1271 (by decide) ?_
            obtain ⟨fs110, hk110, hw⟩ := hw
            refine nrX1_90 rfl htr hk110 dX1_groundLine_110 (by omega) (Nat.le_of_ble_eq_true rfl) hw ?_
            clear hw
            intro r110 hw
            refine J.if_eq 211 dX1_groundLine_113 (by decide) ⟨fun c113 => ?_, fun c113 => ?_⟩
            · obtain ⟨hw, -⟩ := hw
              specialize hw c113
              exact J.pick [3, 4, 2, 0] rfl (rX1_groundLine_211 htr hdd hT hW1 hw)
            · obtain ⟨-, hw⟩ := hw
              specialize hw c113
              refine J.iconst (v := (1 : Int32)) dX1_groundLine_116 (by decide) ?_
              refine J.istore (lv' := [(4, .int (1 : Int32)), (3, .ref b14_1), (2, .ref (x + 109)), (0, .ref x), (1, .ref w1)]) dX1_groundLine_117 (by decide) rfl ?_
              refine J.goto 211 dX1_groundLine_119 (by decide) ?_
              exact J.pick [3, 4, 2, 0] rfl (rX1_groundLine_211 htr hdd hT hW1 hw)
          · obtain ⟨-, hw⟩ := hw
            specialize hw c17_98708952
            by_cases c17_102974396 : r14 = (102974396 : Int32)
            · obtain ⟨hw, -⟩ := hw
              specialize hw c17_102974396
              refine J.lookup (off := 105) 122 dX1_groundLine_17 (by decide) (by rw [c17_102974396]; decide) (by decide) ?_
              refine J.aload_n 1 dX1_groundLine_122 rfl ?_
              refine J.ldcS dX1_groundLine_123 jl_1272 (by decide) ?_
              obtain ⟨fs125, hk125, hw⟩ := hw
              refine nrX1_90 rfl htr hk125 dX1_groundLine_125 (by omega) (Nat.le_of_ble_eq_true rfl) hw ?_
              clear hw
              intro r125 hw
              refine J.if_eq 211 dX1_groundLine_128 (by decide) ⟨fun c128 => ?_, fun c128 => ?_⟩
              · obtain ⟨hw, -⟩ := hw
                specialize hw c128
                exact J.pick [3, 4, 2, 0] rfl (rX1_groundLine_211 htr hdd hT hW1 hw)
              · obtain ⟨-, hw⟩ := hw
                specialize hw c128
                refine J.iconst (v := (2 : Int32)) dX1_groundLine_131 (by decide) ?_
                refine J.istore (lv' := [(4, .int (2 : Int32)), (3, .ref b14_1), (2, .ref (x + 109)), (0, .ref x), (1, .ref w1)]) dX1_groundLine_132 (by decide) rfl ?_
                refine J.goto 211 dX1_groundLine_134 (by decide) ?_
                exact J.pick [3, 4, 2, 0] rfl (rX1_groundLine_211 htr hdd hT hW1 hw)
            · obtain ⟨-, hw⟩ := hw
              specialize hw c17_102974396
              by_cases c17_103163713 : r14 = (103163713 : Int32)
              · obtain ⟨hw, -⟩ := hw
                specialize hw c17_103163713
                refine J.lookup (off := 120) 137 dX1_groundLine_17 (by decide) (by rw [c17_103163713]; decide) (by decide) ?_
                refine J.aload_n 1 dX1_groundLine_137 rfl ?_
                refine J.ldcS dX1_groundLine_138 jl_1273 (by decide) ?_
                obtain ⟨fs140, hk140, hw⟩ := hw
                refine nrX1_90 rfl htr hk140 dX1_groundLine_140 (by omega) (Nat.le_of_ble_eq_true rfl) hw ?_
                clear hw
                intro r140 hw
                refine J.if_eq 211 dX1_groundLine_143 (by decide) ⟨fun c143 => ?_, fun c143 => ?_⟩
                · obtain ⟨hw, -⟩ := hw
                  specialize hw c143
                  exact J.pick [3, 4, 2, 0] rfl (rX1_groundLine_211 htr hdd hT hW1 hw)
                · obtain ⟨-, hw⟩ := hw
                  specialize hw c143
                  refine J.iconst (v := (3 : Int32)) dX1_groundLine_146 (by decide) ?_
                  refine J.istore (lv' := [(4, .int (3 : Int32)), (3, .ref b14_1), (2, .ref (x + 109)), (0, .ref x), (1, .ref w1)]) dX1_groundLine_147 (by decide) rfl ?_
                  refine J.goto 211 dX1_groundLine_149 (by decide) ?_
                  exact J.pick [3, 4, 2, 0] rfl (rX1_groundLine_211 htr hdd hT hW1 hw)
              · obtain ⟨-, hw⟩ := hw
                specialize hw c17_103163713
                by_cases c17_104696477 : r14 = (104696477 : Int32)
                · obtain ⟨hw, -⟩ := hw
                  specialize hw c17_104696477
                  refine J.lookup (off := 165) 182 dX1_groundLine_17 (by decide) (by rw [c17_104696477]; decide) (by decide) ?_
                  refine J.aload_n 1 dX1_groundLine_182 rfl ?_
                  refine J.ldcS dX1_groundLine_183 jl_1276 (by decide) ?_
                  obtain ⟨fs185, hk185, hw⟩ := hw
                  refine nrX1_90 rfl htr hk185 dX1_groundLine_185 (by omega) (Nat.le_of_ble_eq_true rfl) hw ?_
                  clear hw
                  intro r185 hw
                  refine J.if_eq 211 dX1_groundLine_188 (by decide) ⟨fun c188 => ?_, fun c188 => ?_⟩
                  · obtain ⟨hw, -⟩ := hw
                    specialize hw c188
                    exact J.pick [3, 4, 2, 0] rfl (rX1_groundLine_211 htr hdd hT hW1 hw)
                  · obtain ⟨-, hw⟩ := hw
                    specialize hw c188
                    refine J.bipush (v := (6 : Int32)) dX1_groundLine_191 (by decide) ?_
                    refine J.istore (lv' := [(4, .int (6 : Int32)), (3, .ref b14_1), (2, .ref (x + 109)), (0, .ref x), (1, .ref w1)]) dX1_groundLine_193 (by decide) rfl ?_
                    refine J.goto 211 dX1_groundLine_195 (by decide) ?_
                    exact J.pick [3, 4, 2, 0] rfl (rX1_groundLine_211 htr hdd hT hW1 hw)
                · obtain ⟨-, hw⟩ := hw
                  specialize hw c17_104696477
                  refine J.lookup (off := 194) 211 dX1_groundLine_17 (by decide) (jlk r14 [(3016384 : Int32), (3208616 : Int32), (3492756 : Int32), (3645428 : Int32), (98708952 : Int32), (102974396 : Int32), (103163713 : Int32), (104696477 : Int32)] ⟨c17_3016384, c17_3208616, c17_3492756, c17_3645428, c17_98708952, c17_102974396, c17_103163713, c17_104696477, trivial⟩ (by decide)) (by decide) ?_
                  exact J.pick [3, 4, 2, 0] rfl (rX1_groundLine_211 htr hdd hT hW1 hw)
abbrev MX1_noMore : jM := (yX1_noMore, cX1_noMore, 3, none, [])
-- VisitingHours.noMore(II)V
def wX1_noMore (x : Nat) (sh : List jH) (V : Nat → Nat → Int32) (R : Nat → Nat → Option Nat) (c : Nat) (n : Nat) (a1 : Int32) (a2 : Int32) (Q : List jH → (Nat → Nat → Int32) → (Nat → Nat → Option Nat) → Prop) (X : String → List jH → (Nat → Nat → Int32) → (Nat → Nat → Option Nat) → Prop) : Prop :=
  ((a2 ≤ a1 → (∃ c110 n110 c210 n210 : Nat, c110 + c210 ≤ c ∧ n110 + n210 ≤ n ∧ (wX3_word (x + 109) sh V R c110 n110 (fun r10 sh10 V10 R10 => (jReg shX1 sh10 x ∧ (∃ c118 n118 c218 n218 : Nat, c118 + c218 ≤ c210 ∧ n118 + n218 ≤ n210 ∧ (wX3_wrong (x + 109) sh10 V10 R10 c118 n118 (fun r18 sh18 V18 R18 => (jReg shX1 sh18 x ∧ (∃ b21_1, r18 = some b21_1 ∧ (∃ fs21 : List Value, (mk sh18 V18 R18)[b21_1]? = some (.inr (6, fs21)) ∧ jn ≤ b21_1 ∧ X "VisitingHours$Wrong" sh18 V18 R18))))))))))) ∧ (¬ a2 ≤ a1 → Q sh V R))
theorem mX1_noMore {G : jG} {l : Launch} {d : Nat} (htr : l.stackTraces = false) (hdd : 8 ≤ d) {sh : List jH} {V : Nat → Nat → Int32} {R : Nat → Nat → Option Nat} {c : Nat} {n : Nat} {x : Nat} (hT : jReg shX1 sh x) {a1 : Int32} {a2 : Int32} {Q : List jH → (Nat → Nat → Int32) → (Nat → Nat → Option Nat) → Prop} {X : String → List jH → (Nat → Nat → Int32) → (Nat → Nat → Option Nat) → Prop} (hw : wX1_noMore x sh V R c n a1 a2 Q X) : JM G l MX1_noMore d c n [.ref x, .int a1, .int a2] (mk sh V R) (jSv Q) (jSx X) := by
  refine JM.intro (by decide) rfl htr (Nat.le_of_ble_eq_true rfl) ?_
  show J G l MX1_noMore d c n 0 [(0, .ref x), (1, .int a1), (2, .int a2)] [] (mk sh V R) _ _
  unfold wX1_noMore at hw
  refine J.iload_n 1 dX1_noMore_0 rfl ?_
  refine J.iload_n 2 dX1_noMore_1 rfl ?_
  refine J.icmp_ge 6 dX1_noMore_2 (by decide) ⟨fun c2 => ?_, fun c2 => ?_⟩
  · obtain ⟨hw, -⟩ := hw
    specialize hw c2
    refine J.aload_n 0 dX1_noMore_6 rfl ?_
    refine fgX1_25 rfl hT dX1_noMore_7 ?_
    obtain ⟨c110, n110, c210, n210, hc10, hd10, hw⟩ := hw
    refine uX1_86 rfl htr (hT.sub 109 2 rfl) dX1_noMore_10 (by omega) (Nat.le_of_ble_eq_true rfl) hw ⟨hc10, hd10⟩ ?_
    clear hw
    intro r10 sh10 V10 R10 hw
    clear hT
    obtain ⟨hT, hw⟩ := hw
    refine J.pop dX1_noMore_13 (va_rf_cat _) ?_
    refine J.aload_n 0 dX1_noMore_14 rfl ?_
    refine fgX1_25 rfl hT dX1_noMore_15 ?_
    obtain ⟨c118, n118, c218, n218, hc18, hd18, hw⟩ := hw
    refine uX1_96 rfl htr (hT.sub 109 2 rfl) dX1_noMore_18 (by omega) (Nat.le_of_ble_eq_true rfl) hw ⟨hc18, hd18⟩ ?_
    clear hw
    intro r18 sh18 V18 R18 hw
    clear hT
    obtain ⟨hT, hw⟩ := hw
    obtain ⟨b21_1, rfl, hw⟩ := hw
    obtain ⟨fs21, hk21, hn21, hw⟩ := hw
    exact J.athrow dX1_noMore_21 hn21 hk21 rfl rfl (JX.out (by rfl) ⟨_, _, _, rfl, hw⟩)
  · obtain ⟨-, hw⟩ := hw
    specialize hw c2
    exact J.vret rfl dX1_noMore_5 ⟨_, _, _, rfl, rfl, hw⟩
abbrev MX1_goesOn : jM := (yX1_goesOn, cX1_goesOn, 1, some .boolean, [])
theorem uX1_233 {G : jG} {l : Launch} {M : jM} {d c n pc : Nat} {lv : List (Nat × Value)} {rest : List Value} {post : Option Value → List jC → Prop} {xp : String → List jC → Prop} (hM : M.1.cls = RX1) (htr : l.stackTraces = false) {sh : List jH} {V : Nat → Nat → Int32} {R : Nat → Nat → Option Nat} {r : Nat} (hT : jReg shX3 sh r) {Q : Int32 → (Nat → Nat → Int32) → Prop} (hd : decode M.2.1 pc = .ok (.invokevirtual 233, 3)) (hdd : 2 + 1 ≤ d) (hw8 : (rest.map fun v => v.category).sum ≤ 8) (hw : wX3_isOver r V Q) (kk : ∀ r V', Q r V' → J G l M d c n (pc + 3) lv (.int r :: rest) (mk sh V' R) post xp) : J G l M d c n pc lv (.ref r :: rest) (mk sh V R) post xp := by
  exact J.callV (As := []) (hcw := by rw [hM]; exact lw_V q822 q823 q824 q146 q825) (mX3_isOver htr hT hw) hd rfl ⟨2, _, _, mk_at (hT.at 0 rfl), rfl, rfl, fun _ => rfl⟩ ⟨rfl, by decide, by decide, by show _ = some 0; decide +kernel⟩ hw8 ⟨hdd, by decide⟩ jcc0 (fun r9 g9 h9 => by obtain ⟨V9, rfl, r, rfl, h⟩ := h9; exact kk r V9 h) jNo.x
theorem uX1_247 {G : jG} {l : Launch} {M : jM} {d c n pc : Nat} {lv : List (Nat × Value)} {rest : List Value} {post : Option Value → List jC → Prop} {xp : String → List jC → Prop} (hM : M.1.cls = RX1) (htr : l.stackTraces = false) {sh : List jH} {V : Nat → Nat → Int32} {R : Nat → Nat → Option Nat} {r : Nat} (hT : jReg shX3 sh r) {a1 : Int32} {Q : Int32 → (Nat → Nat → Int32) → Prop} (hd : decode M.2.1 pc = .ok (.invokevirtual 247, 3)) (hdd : 2 + 1 ≤ d) (hw8 : (rest.map fun v => v.category).sum ≤ 8) (hw : wX3_sign r V a1 Q) (kk : ∀ r V', Q r V' → J G l M d c n (pc + 3) lv (.int r :: rest) (mk sh V' R) post xp) : J G l M d c n pc lv (.int a1 :: .ref r :: rest) (mk sh V R) post xp := by
  exact J.callV (As := [.int a1]) (hcw := by rw [hM]; exact lw_V q1351 q1352 q1353 q146 q1354) (mX3_sign htr hT hw) hd rfl ⟨2, _, _, mk_at (hT.at 0 rfl), rfl, rfl, fun _ => rfl⟩ ⟨rfl, by decide, by decide, by show _ = some 1; decide +kernel⟩ hw8 ⟨hdd, by decide⟩ jcc0 (fun r9 g9 h9 => by obtain ⟨V9, rfl, r, rfl, h⟩ := h9; exact kk r V9 h) jNo.x
-- VisitingHours.goesOn()Z
def wX1_goesOn (x : Nat) (sh : List jH) (V : Nat → Nat → Int32) (R : Nat → Nat → Option Nat) (c : Nat) (n : Nat) (Q : Int32 → List jH → (Nat → Nat → Int32) → (Nat → Nat → Option Nat) → Prop) (X : String → List jH → (Nat → Nat → Int32) → (Nat → Nat → Option Nat) → Prop) : Prop :=
  (wX3_isOver (x + 109) V (fun r4 V4 => ((r4 = 0 → (wX3_sign (x + 109) V4 (59 : Int32) (fun r18 V18 => ((r18 = 0 → (∃ c130 n130 c230 n230 : Nat, c130 + c230 ≤ c ∧ n130 + n230 ≤ n ∧ (wX3_wrong (x + 109) sh V18 R c130 n130 (fun r30 sh30 V30 R30 => (jReg shX1 sh30 x ∧ (∃ b33_1, r30 = some b33_1 ∧ (∃ fs33 : List Value, (mk sh30 V30 R30)[b33_1]? = some (.inr (6, fs33)) ∧ jn ≤ b33_1 ∧ X "VisitingHours$Wrong" sh30 V30 R30))))))) ∧ (¬ r18 = 0 → Q (1 : Int32) sh V18 R))))) ∧ (¬ r4 = 0 → Q (0 : Int32) sh V4 R))))
theorem mX1_goesOn {G : jG} {l : Launch} {d : Nat} (htr : l.stackTraces = false) (hdd : 5 ≤ d) {sh : List jH} {V : Nat → Nat → Int32} {R : Nat → Nat → Option Nat} {c : Nat} {n : Nat} {x : Nat} (hT : jReg shX1 sh x) {Q : Int32 → List jH → (Nat → Nat → Int32) → (Nat → Nat → Option Nat) → Prop} {X : String → List jH → (Nat → Nat → Int32) → (Nat → Nat → Option Nat) → Prop} (hw : wX1_goesOn x sh V R c n Q X) : JM G l MX1_goesOn d c n [.ref x] (mk sh V R) (jSr Q) (jSx X) := by
  refine JM.intro (by decide) rfl htr (Nat.le_of_ble_eq_true rfl) ?_
  show J G l MX1_goesOn d c n 0 [(0, .ref x)] [] (mk sh V R) _ _
  unfold wX1_goesOn at hw
  refine J.aload_n 0 dX1_goesOn_0 rfl ?_
  refine fgX1_25 rfl hT dX1_goesOn_1 ?_
  refine uX1_233 rfl htr (hT.sub 109 2 rfl) dX1_goesOn_4 (by omega) (Nat.le_of_ble_eq_true rfl) hw ?_
  clear hw
  intro r4 V4 hw
  refine J.if_eq 12 dX1_goesOn_7 (by decide) ⟨fun c7 => ?_, fun c7 => ?_⟩
  · obtain ⟨hw, -⟩ := hw
    specialize hw c7
    refine J.aload_n 0 dX1_goesOn_12 rfl ?_
    refine fgX1_25 rfl hT dX1_goesOn_13 ?_
    refine J.bipush (v := (59 : Int32)) dX1_goesOn_16 (by decide) ?_
    refine uX1_247 rfl htr (hT.sub 109 2 rfl) dX1_goesOn_18 (by omega) (Nat.le_of_ble_eq_true rfl) hw ?_
    clear hw
    intro r18 V18 hw
    refine J.if_eq 26 dX1_goesOn_21 (by decide) ⟨fun c21 => ?_, fun c21 => ?_⟩
    · obtain ⟨hw, -⟩ := hw
      specialize hw c21
      refine J.aload_n 0 dX1_goesOn_26 rfl ?_
      refine fgX1_25 rfl hT dX1_goesOn_27 ?_
      obtain ⟨c130, n130, c230, n230, hc30, hd30, hw⟩ := hw
      refine uX1_96 rfl htr (hT.sub 109 2 rfl) dX1_goesOn_30 (by omega) (Nat.le_of_ble_eq_true rfl) hw ⟨hc30, hd30⟩ ?_
      clear hw
      intro r30 sh30 V30 R30 hw
      clear hT
      obtain ⟨hT, hw⟩ := hw
      obtain ⟨b33_1, rfl, hw⟩ := hw
      obtain ⟨fs33, hk33, hn33, hw⟩ := hw
      exact J.athrow dX1_goesOn_33 hn33 hk33 rfl rfl (JX.out (by rfl) ⟨_, _, _, rfl, hw⟩)
    · obtain ⟨-, hw⟩ := hw
      specialize hw c21
      refine J.iconst (v := (1 : Int32)) dX1_goesOn_24 (by decide) ?_
      exact J.zret rfl rfl dX1_goesOn_25 ⟨_, _, _, rfl, _, rfl, hw⟩
  · obtain ⟨-, hw⟩ := hw
    specialize hw c7
    refine J.iconst (v := (0 : Int32)) dX1_goesOn_10 (by decide) ?_
    exact J.zret rfl rfl dX1_goesOn_11 ⟨_, _, _, rfl, _, rfl, hw⟩
abbrev MX1_groundText : jM := (yX1_groundText, cX1_groundText, 3, none, [])
theorem uX1_237 {G : jG} {l : Launch} {M : jM} {d c n pc : Nat} {lv : List (Nat × Value)} {rest : List Value} {post : Option Value → List jC → Prop} {xp : String → List jC → Prop} (hM : M.1.cls = RX1) (htr : l.stackTraces = false) {sh : List jH} {V : Nat → Nat → Int32} {R : Nat → Nat → Option Nat} {x : Nat} (hT : jReg shX1 sh x) {a1 : Int32} {a2 : Int32} {c1 n1 cq nq : Nat} {Q : List jH → (Nat → Nat → Int32) → (Nat → Nat → Option Nat) → Prop} {X : String → List jH → (Nat → Nat → Int32) → (Nat → Nat → Option Nat) → Prop} (hd : decode M.2.1 pc = .ok (.invokevirtual 237, 3)) (hdd : 8 + 1 ≤ d) (hw8 : (rest.map fun v => v.category).sum ≤ 8) (hw : wX1_noMore x sh V R c1 n1 a1 a2 Q X) (hcc : c1 + c ≤ cq ∧ n1 + n ≤ nq) (kk : ∀ sh' V' R', Q sh' V' R' → J G l M d c n (pc + 3) lv rest (mk sh' V' R') post xp) (kx : ∀ E sh' V' R', X E sh' V' R' → JX G l M d c n pc lv E (mk sh' V' R') post xp) : J G l M d cq nq pc lv (.int a2 :: .int a1 :: .ref x :: rest) (mk sh V R) post xp := by
  exact J.callV (As := [.int a1, .int a2]) (hcw := by rw [hM]; exact lw_V q834 q836 qs20 q144 q837) (mX1_noMore htr (Nat.le_refl _) hT hw) hd rfl ⟨0, _, _, mk_at (hT.at 0 rfl), rfl, rfl, fun _ => rfl⟩ ⟨rfl, by decide, by decide, by show _ = some 2; decide +kernel⟩ hw8 ⟨hdd, by decide⟩ hcc (fun r9 g9 h9 => by obtain ⟨s9, V9, R9, rfl, rfl, h⟩ := h9; exact kk s9 V9 R9 h) (fun E9 g9 h9 => by obtain ⟨s9, V9, R9, rfl, h⟩ := h9; exact kx E9 s9 V9 R9 h)
theorem uX1_241 {G : jG} {l : Launch} {M : jM} {d c n pc : Nat} {lv : List (Nat × Value)} {rest : List Value} {post : Option Value → List jC → Prop} {xp : String → List jC → Prop} (hM : M.1.cls = RX1) (htr : l.stackTraces = false) {sh : List jH} {V : Nat → Nat → Int32} {R : Nat → Nat → Option Nat} {x : Nat} {w1 : Nat} (hT : jReg shX1 sh x) (hW1 : jReg shX2 sh w1) {c1 n1 cq nq : Nat} {Q : List jH → (Nat → Nat → Int32) → (Nat → Nat → Option Nat) → Prop} {X : String → List jH → (Nat → Nat → Int32) → (Nat → Nat → Option Nat) → Prop} (hd : decode M.2.1 pc = .ok (.invokevirtual 241, 3)) (hdd : 12 + 1 ≤ d) (hw8 : (rest.map fun v => v.category).sum ≤ 8) (hw : wX1_groundLine x w1 sh V R c1 n1 Q X) (hcc : c1 + c ≤ cq ∧ n1 + n ≤ nq) (kk : ∀ sh' V' R', Q sh' V' R' → J G l M d c n (pc + 3) lv rest (mk sh' V' R') post xp) (kx : ∀ E sh' V' R', X E sh' V' R' → JX G l M d c n pc lv E (mk sh' V' R') post xp) : J G l M d cq nq pc lv (.ref w1 :: .ref x :: rest) (mk sh V R) post xp := by
  exact J.callV (As := [.ref w1]) (hcw := by rw [hM]; exact lw_V q1197 q1199 qs22 q144 q1200) (mX1_groundLine htr (Nat.le_refl _) hT hW1 hw) hd rfl ⟨0, _, _, mk_at (hT.at 0 rfl), rfl, rfl, fun _ => rfl⟩ ⟨rfl, by decide, by decide, by show _ = some 1; decide +kernel⟩ hw8 ⟨hdd, by decide⟩ hcc (fun r9 g9 h9 => by obtain ⟨s9, V9, R9, rfl, rfl, h⟩ := h9; exact kk s9 V9 R9 h) (fun E9 g9 h9 => by obtain ⟨s9, V9, R9, rfl, h⟩ := h9; exact kx E9 s9 V9 R9 h)
theorem uX1_244 {G : jG} {l : Launch} {M : jM} {d c n pc : Nat} {lv : List (Nat × Value)} {rest : List Value} {post : Option Value → List jC → Prop} {xp : String → List jC → Prop} (hM : M.1.cls = RX1) (htr : l.stackTraces = false) {sh : List jH} {V : Nat → Nat → Int32} {R : Nat → Nat → Option Nat} {x : Nat} (hT : jReg shX1 sh x) {c1 n1 cq nq : Nat} {Q : Int32 → List jH → (Nat → Nat → Int32) → (Nat → Nat → Option Nat) → Prop} {X : String → List jH → (Nat → Nat → Int32) → (Nat → Nat → Option Nat) → Prop} (hd : decode M.2.1 pc = .ok (.invokevirtual 244, 3)) (hdd : 5 + 1 ≤ d) (hw8 : (rest.map fun v => v.category).sum ≤ 8) (hw : wX1_goesOn x sh V R c1 n1 Q X) (hcc : c1 + c ≤ cq ∧ n1 + n ≤ nq) (kk : ∀ r sh' V' R', Q r sh' V' R' → J G l M d c n (pc + 3) lv (.int r :: rest) (mk sh' V' R') post xp) (kx : ∀ E sh' V' R', X E sh' V' R' → JX G l M d c n pc lv E (mk sh' V' R') post xp) : J G l M d cq nq pc lv (.ref x :: rest) (mk sh V R) post xp := by
  exact J.callV (As := []) (hcw := by rw [hM]; exact lw_V q1347 q1349 qs30 q144 q1350) (mX1_goesOn htr (Nat.le_refl _) hT hw) hd rfl ⟨0, _, _, mk_at (hT.at 0 rfl), rfl, rfl, fun _ => rfl⟩ ⟨rfl, by decide, by decide, by show _ = some 0; decide +kernel⟩ hw8 ⟨hdd, by decide⟩ hcc (fun r9 g9 h9 => by obtain ⟨s9, V9, R9, rfl, r, rfl, h⟩ := h9; exact kk r s9 V9 R9 h) (fun E9 g9 h9 => by obtain ⟨s9, V9, R9, rfl, h⟩ := h9; exact kx E9 s9 V9 R9 h)
-- VisitingHours.groundText(LVisitingHours$World;)V
def wX1_groundText_13 (x : Nat) (w1 : Nat) (Q : List jH → (Nat → Nat → Int32) → (Nat → Nat → Option Nat) → Prop) (X : String → List jH → (Nat → Nat → Int32) → (Nat → Nat → Option Nat) → Prop) : Nat → List jH → (Nat → Nat → Int32) → (Nat → Nat → Option Nat) → Nat → Nat → Int32 → Prop
  | 0, _, _, _, _, _, _ => False
  | f + 1, sh, V, R, c, n, x2 =>
    (∃ c117 n117 c217 n217 : Nat, c117 + c217 ≤ c ∧ n117 + n217 ≤ n ∧ (wX1_noMore x sh V R c117 n117 x2 (14 : Int32) (fun sh17 V17 R17 => (jReg shX1 sh17 x ∧ (jReg shX2 sh17 w1 ∧ (∃ c122 n122 c222 n222 : Nat, c122 + c222 ≤ c217 ∧ n122 + n222 ≤ n217 ∧ (wX1_groundLine x w1 sh17 V17 R17 c122 n122 (fun sh22 V22 R22 => (jReg shX1 sh22 x ∧ (jReg shX2 sh22 w1 ∧ (∀ y25 : Int32, y25 = x2 + (1 : Int32) → (∃ c129 n129 c229 n229 : Nat, c129 + c229 ≤ c222 ∧ n129 + n229 ≤ n222 ∧ (wX1_goesOn x sh22 V22 R22 c129 n129 (fun r29 sh29 V29 R29 => (jReg shX1 sh29 x ∧ (jReg shX2 sh29 w1 ∧ ((¬ r29 = 0 → wX1_groundText_13 x w1 Q X f sh29 V29 R29 c229 n229 y25) ∧ (r29 = 0 → Q sh29 V29 R29))))) (fun E9 shx Vx Rx => X E9 shx Vx Rx))))))) (fun E9 shx Vx Rx => X E9 shx Vx Rx)))))) (fun E9 shx Vx Rx => X E9 shx Vx Rx)))
theorem rX1_groundText_13 {G : jG} {l : Launch} {d : Nat} (htr : l.stackTraces = false) (hdd : 13 ≤ d) {x : Nat} {w1 : Nat} {Q : List jH → (Nat → Nat → Int32) → (Nat → Nat → Option Nat) → Prop} {X : String → List jH → (Nat → Nat → Int32) → (Nat → Nat → Option Nat) → Prop} : ∀ (f : Nat) (sh : List jH) (V : Nat → Nat → Int32) (R : Nat → Nat → Option Nat) (c : Nat) (n : Nat) (x2 : Int32) (hT : jReg shX1 sh x) (hW1 : jReg shX2 sh w1), wX1_groundText_13 x w1 Q X f sh V R c n x2 → J G l MX1_groundText d c n 13 [(0, .ref x), (1, .ref w1), (2, .int x2)] [] (mk sh V R) (jSv Q) (jSx X) := by
  intro f
  induction f with
  | zero =>
    intro sh V R c n x2 hT hW1 hw
    rw [wX1_groundText_13] at hw
    exact hw.elim
  | succ f ih =>
    intro sh V R c n x2 hT hW1 hw
    rw [wX1_groundText_13] at hw
    refine J.aload_n 0 dX1_groundText_13 rfl ?_
    refine J.iload_n 2 dX1_groundText_14 rfl ?_
    refine J.bipush (v := (14 : Int32)) dX1_groundText_15 (by decide) ?_
    obtain ⟨c117, n117, c217, n217, hc17, hd17, hw⟩ := hw
    refine uX1_237 rfl htr hT dX1_groundText_17 (by omega) (Nat.le_of_ble_eq_true rfl) hw ⟨hc17, hd17⟩ ?_ ?_
    rotate_left
    · exact fun E9 shx Vx Rx h9 => JX.out (by rfl) ⟨_, _, _, rfl, h9⟩
    clear hw
    intro sh17 V17 R17 hw
    clear hW1 hT
    obtain ⟨hT, hW1, hw⟩ := hw
    refine J.aload_n 0 dX1_groundText_20 rfl ?_
    refine J.aload_n 1 dX1_groundText_21 rfl ?_
    obtain ⟨c122, n122, c222, n222, hc22, hd22, hw⟩ := hw
    refine uX1_241 rfl htr hT hW1 dX1_groundText_22 (by omega) (Nat.le_of_ble_eq_true rfl) hw ⟨hc22, hd22⟩ ?_ ?_
    rotate_left
    · exact fun E9 shx Vx Rx h9 => JX.out (by rfl) ⟨_, _, _, rfl, h9⟩
    clear hw
    intro sh22 V22 R22 hw
    clear hW1 hT
    obtain ⟨hT, hW1, hw⟩ := hw
    refine J.iincN 2 (K := (1 : Int32)) (lv' := fun y25 => [(2, .int y25), (0, .ref x), (1, .ref w1)]) dX1_groundText_25 rfl (by decide) (by decide) (fun _ => rfl) hw (fun y25 hw => ?_)
    refine J.aload_n 1 dX1_groundText_28 rfl ?_
    obtain ⟨c129, n129, c229, n229, hc29, hd29, hw⟩ := hw
    refine uX1_244 rfl htr hT dX1_groundText_29 (by omega) (Nat.le_of_ble_eq_true rfl) hw ⟨hc29, hd29⟩ ?_ ?_
    rotate_left
    · exact fun E9 shx Vx Rx h9 => JX.out (by rfl) ⟨_, _, _, rfl, h9⟩
    clear hw
    intro r29 sh29 V29 R29 hw
    clear hW1 hT
    obtain ⟨hT, hW1, hw⟩ := hw
    refine J.if_ne 13 dX1_groundText_32 (by decide) ⟨fun c32 => ?_, fun c32 => ?_⟩
    · obtain ⟨hw, -⟩ := hw
      specialize hw c32
      exact J.pick [1, 2, 0] rfl (ih _ _ _ _ _ _ hT hW1 hw)
    · obtain ⟨-, hw⟩ := hw
      specialize hw c32
      exact J.vret rfl dX1_groundText_35 ⟨_, _, _, rfl, rfl, hw⟩
def wX1_groundText (x : Nat) (w1 : Nat) (sh : List jH) (V : Nat → Nat → Int32) (R : Nat → Nat → Option Nat) (c : Nat) (n : Nat) (Q : List jH → (Nat → Nat → Int32) → (Nat → Nat → Option Nat) → Prop) (X : String → List jH → (Nat → Nat → Int32) → (Nat → Nat → Option Nat) → Prop) : Prop :=
  (wX3_isOver (x + 109) V (fun r4 V4 => ((r4 = 0 → (∃ f9, wX1_groundText_13 x w1 Q X f9 sh V4 R c n (0 : Int32))) ∧ (¬ r4 = 0 → Q sh V4 R))))
theorem mX1_groundText {G : jG} {l : Launch} {d : Nat} (htr : l.stackTraces = false) (hdd : 13 ≤ d) {sh : List jH} {V : Nat → Nat → Int32} {R : Nat → Nat → Option Nat} {c : Nat} {n : Nat} {x : Nat} {w1 : Nat} (hT : jReg shX1 sh x) (hW1 : jReg shX2 sh w1) {Q : List jH → (Nat → Nat → Int32) → (Nat → Nat → Option Nat) → Prop} {X : String → List jH → (Nat → Nat → Int32) → (Nat → Nat → Option Nat) → Prop} (hw : wX1_groundText x w1 sh V R c n Q X) : JM G l MX1_groundText d c n [.ref x, .ref w1] (mk sh V R) (jSv Q) (jSx X) := by
  refine JM.intro (by decide) rfl htr (Nat.le_of_ble_eq_true rfl) ?_
  show J G l MX1_groundText d c n 0 [(0, .ref x), (1, .ref w1)] [] (mk sh V R) _ _
  unfold wX1_groundText at hw
  refine J.aload_n 0 dX1_groundText_0 rfl ?_
  refine fgX1_25 rfl hT dX1_groundText_1 ?_
  refine uX1_233 rfl htr (hT.sub 109 2 rfl) dX1_groundText_4 (by omega) (Nat.le_of_ble_eq_true rfl) hw ?_
  clear hw
  intro r4 V4 hw
  refine J.if_eq 11 dX1_groundText_7 (by decide) ⟨fun c7 => ?_, fun c7 => ?_⟩
  · obtain ⟨hw, -⟩ := hw
    specialize hw c7
    refine J.iconst (v := (0 : Int32)) dX1_groundText_11 (by decide) ?_
    refine J.istore_n (lv' := [(2, .int (0 : Int32)), (0, .ref x), (1, .ref w1)]) dX1_groundText_12 (by decide) rfl ?_
    obtain ⟨f9, hw⟩ := hw
    exact J.pick [1, 2, 0] rfl (rX1_groundText_13 htr hdd f9 _ _ _ _ _ _ hT hW1 hw)
  · obtain ⟨-, hw⟩ := hw
    specialize hw c7
    exact J.vret rfl dX1_groundText_10 ⟨_, _, _, rfl, rfl, hw⟩
theorem fgX2_9 {G : jG} {l : Launch} {M : jM} {d c n pc : Nat} {lv : List (Nat × Value)} {st : List Value} {sh : List jH} {V : Nat → Nat → Int32} {R : Nat → Nat → Option Nat} {post : Option Value → List jC → Prop} {xp : String → List jC → Prop} {w : Nat} (hM : M.1.cls = RX2) (hT : jReg shX2 sh w) (hd : decode M.2.1 pc = .ok (.getfield 9, 3)) (kk : J G l M d c n (pc + 3) lv (.int (V w 8) :: st) (mk sh V R) post xp) : J G l M d c n pc lv (.ref w :: st) (mk sh V R) post xp := JV.getf (C := RX2) (T0 := TX2) (N := 22) 8 hd hT.1 (hT.at 0 rfl) rfl in_X2 (by decide) (by rw [hM]; exact q221) rfl rfl kk
theorem fpX2_9 {G : jG} {l : Launch} {M : jM} {d c n pc : Nat} {lv : List (Nat × Value)} {st : List Value} {sh : List jH} {V : Nat → Nat → Int32} {R : Nat → Nat → Option Nat} {post : Option Value → List jC → Prop} {xp : String → List jC → Prop} {w : Nat} (hM : M.1.cls = RX2) (hT : jReg shX2 sh w) {x9 : Int32} (hd : decode M.2.1 pc = .ok (.putfield 9, 3)) (kk : J G l M d c n (pc + 3) lv st (mk sh (vset V w 8 x9) R) post xp) : J G l M d c n pc lv (.int x9 :: .ref w :: st) (mk sh V R) post xp := JV.puti (C := RX2) (T0 := TX2) (N := 22) (o := 0) 8 hd hT.1 (hT.at 0 rfl) rfl in_X2 tyX2 tyX2_ok nmX2 (by decide) (by rw [hM]; exact q221) rfl rfl (ji_put x9) rfl kk
theorem fgX2_15 {G : jG} {l : Launch} {M : jM} {d c n pc : Nat} {lv : List (Nat × Value)} {st : List Value} {sh : List jH} {V : Nat → Nat → Int32} {R : Nat → Nat → Option Nat} {post : Option Value → List jC → Prop} {xp : String → List jC → Prop} {w : Nat} (hM : M.1.cls = RX2) (hT : jReg shX2 sh w) (hd : decode M.2.1 pc = .ok (.getfield 15, 3)) (kk : J G l M d c n (pc + 3) lv (.ref (w + 1) :: st) (mk sh V R) post xp) : J G l M d c n pc lv (.ref w :: st) (mk sh V R) post xp := JV.getf (C := RX2) (T0 := TX2) (N := 22) 9 hd hT.1 (hT.at 0 rfl) rfl in_X2 (by decide) (by rw [hM]; exact q223) rfl rfl kk
theorem fgX2_19 {G : jG} {l : Launch} {M : jM} {d c n pc : Nat} {lv : List (Nat × Value)} {st : List Value} {sh : List jH} {V : Nat → Nat → Int32} {R : Nat → Nat → Option Nat} {post : Option Value → List jC → Prop} {xp : String → List jC → Prop} {w : Nat} (hM : M.1.cls = RX2) (hT : jReg shX2 sh w) (hd : decode M.2.1 pc = .ok (.getfield 19, 3)) (kk : J G l M d c n (pc + 3) lv (.ref (w + 2) :: st) (mk sh V R) post xp) : J G l M d c n pc lv (.ref w :: st) (mk sh V R) post xp := JV.getf (C := RX2) (T0 := TX2) (N := 22) 10 hd hT.1 (hT.at 0 rfl) rfl in_X2 (by decide) (by rw [hM]; exact q225) rfl rfl kk
theorem fgX2_22 {G : jG} {l : Launch} {M : jM} {d c n pc : Nat} {lv : List (Nat × Value)} {st : List Value} {sh : List jH} {V : Nat → Nat → Int32} {R : Nat → Nat → Option Nat} {post : Option Value → List jC → Prop} {xp : String → List jC → Prop} {w : Nat} (hM : M.1.cls = RX2) (hT : jReg shX2 sh w) (hd : decode M.2.1 pc = .ok (.getfield 22, 3)) (kk : J G l M d c n (pc + 3) lv (.ref (w + 3) :: st) (mk sh V R) post xp) : J G l M d c n pc lv (.ref w :: st) (mk sh V R) post xp := JV.getf (C := RX2) (T0 := TX2) (N := 22) 11 hd hT.1 (hT.at 0 rfl) rfl in_X2 (by decide) (by rw [hM]; exact q227) rfl rfl kk
theorem fgX2_25 {G : jG} {l : Launch} {M : jM} {d c n pc : Nat} {lv : List (Nat × Value)} {st : List Value} {sh : List jH} {V : Nat → Nat → Int32} {R : Nat → Nat → Option Nat} {post : Option Value → List jC → Prop} {xp : String → List jC → Prop} {w : Nat} (hM : M.1.cls = RX2) (hT : jReg shX2 sh w) (hd : decode M.2.1 pc = .ok (.getfield 25, 3)) (kk : J G l M d c n (pc + 3) lv (.ref (w + 4) :: st) (mk sh V R) post xp) : J G l M d c n pc lv (.ref w :: st) (mk sh V R) post xp := JV.getf (C := RX2) (T0 := TX2) (N := 22) 12 hd hT.1 (hT.at 0 rfl) rfl in_X2 (by decide) (by rw [hM]; exact q229) rfl rfl kk
theorem fgX2_28 {G : jG} {l : Launch} {M : jM} {d c n pc : Nat} {lv : List (Nat × Value)} {st : List Value} {sh : List jH} {V : Nat → Nat → Int32} {R : Nat → Nat → Option Nat} {post : Option Value → List jC → Prop} {xp : String → List jC → Prop} {w : Nat} (hM : M.1.cls = RX2) (hT : jReg shX2 sh w) (hd : decode M.2.1 pc = .ok (.getfield 28, 3)) (kk : J G l M d c n (pc + 3) lv (.ref (w + 5) :: st) (mk sh V R) post xp) : J G l M d c n pc lv (.ref w :: st) (mk sh V R) post xp := JV.getf (C := RX2) (T0 := TX2) (N := 22) 13 hd hT.1 (hT.at 0 rfl) rfl in_X2 (by decide) (by rw [hM]; exact q231) rfl rfl kk
theorem fgX2_31 {G : jG} {l : Launch} {M : jM} {d c n pc : Nat} {lv : List (Nat × Value)} {st : List Value} {sh : List jH} {V : Nat → Nat → Int32} {R : Nat → Nat → Option Nat} {post : Option Value → List jC → Prop} {xp : String → List jC → Prop} {w : Nat} (hM : M.1.cls = RX2) (hT : jReg shX2 sh w) (hd : decode M.2.1 pc = .ok (.getfield 31, 3)) (kk : J G l M d c n (pc + 3) lv (.ref (w + 6) :: st) (mk sh V R) post xp) : J G l M d c n pc lv (.ref w :: st) (mk sh V R) post xp := JV.getf (C := RX2) (T0 := TX2) (N := 22) 14 hd hT.1 (hT.at 0 rfl) rfl in_X2 (by decide) (by rw [hM]; exact q233) rfl rfl kk
theorem fgX2_34 {G : jG} {l : Launch} {M : jM} {d c n pc : Nat} {lv : List (Nat × Value)} {st : List Value} {sh : List jH} {V : Nat → Nat → Int32} {R : Nat → Nat → Option Nat} {post : Option Value → List jC → Prop} {xp : String → List jC → Prop} {w : Nat} (hM : M.1.cls = RX2) (hT : jReg shX2 sh w) (hd : decode M.2.1 pc = .ok (.getfield 34, 3)) (kk : J G l M d c n (pc + 3) lv (.ref (w + 7) :: st) (mk sh V R) post xp) : J G l M d c n pc lv (.ref w :: st) (mk sh V R) post xp := JV.getf (C := RX2) (T0 := TX2) (N := 22) 15 hd hT.1 (hT.at 0 rfl) rfl in_X2 (by decide) (by rw [hM]; exact q235) rfl rfl kk
theorem fgX2_39 {G : jG} {l : Launch} {M : jM} {d c n pc : Nat} {lv : List (Nat × Value)} {st : List Value} {sh : List jH} {V : Nat → Nat → Int32} {R : Nat → Nat → Option Nat} {post : Option Value → List jC → Prop} {xp : String → List jC → Prop} {w : Nat} (hM : M.1.cls = RX2) (hT : jReg shX2 sh w) (hd : decode M.2.1 pc = .ok (.getfield 39, 3)) (kk : J G l M d c n (pc + 3) lv (.ref (w + 8) :: st) (mk sh V R) post xp) : J G l M d c n pc lv (.ref w :: st) (mk sh V R) post xp := JV.getf (C := RX2) (T0 := TX2) (N := 22) 16 hd hT.1 (hT.at 0 rfl) rfl in_X2 (by decide) (by rw [hM]; exact q237) rfl rfl kk
theorem fgX2_42 {G : jG} {l : Launch} {M : jM} {d c n pc : Nat} {lv : List (Nat × Value)} {st : List Value} {sh : List jH} {V : Nat → Nat → Int32} {R : Nat → Nat → Option Nat} {post : Option Value → List jC → Prop} {xp : String → List jC → Prop} {w : Nat} (hM : M.1.cls = RX2) (hT : jReg shX2 sh w) (hd : decode M.2.1 pc = .ok (.getfield 42, 3)) (kk : J G l M d c n (pc + 3) lv (.ref (w + 17) :: st) (mk sh V R) post xp) : J G l M d c n pc lv (.ref w :: st) (mk sh V R) post xp := JV.getf (C := RX2) (T0 := TX2) (N := 22) 17 hd hT.1 (hT.at 0 rfl) rfl in_X2 (by decide) (by rw [hM]; exact q240) rfl rfl kk
theorem fgX2_45 {G : jG} {l : Launch} {M : jM} {d c n pc : Nat} {lv : List (Nat × Value)} {st : List Value} {sh : List jH} {V : Nat → Nat → Int32} {R : Nat → Nat → Option Nat} {post : Option Value → List jC → Prop} {xp : String → List jC → Prop} {w : Nat} (hM : M.1.cls = RX2) (hT : jReg shX2 sh w) (hd : decode M.2.1 pc = .ok (.getfield 45, 3)) (kk : J G l M d c n (pc + 3) lv (.ref (w + 26) :: st) (mk sh V R) post xp) : J G l M d c n pc lv (.ref w :: st) (mk sh V R) post xp := JV.getf (C := RX2) (T0 := TX2) (N := 22) 18 hd hT.1 (hT.at 0 rfl) rfl in_X2 (by decide) (by rw [hM]; exact q243) rfl rfl kk
theorem fgX2_48 {G : jG} {l : Launch} {M : jM} {d c n pc : Nat} {lv : List (Nat × Value)} {st : List Value} {sh : List jH} {V : Nat → Nat → Int32} {R : Nat → Nat → Option Nat} {post : Option Value → List jC → Prop} {xp : String → List jC → Prop} {w : Nat} (hM : M.1.cls = RX2) (hT : jReg shX2 sh w) (hd : decode M.2.1 pc = .ok (.getfield 48, 3)) (kk : J G l M d c n (pc + 3) lv (.ref (w + 35) :: st) (mk sh V R) post xp) : J G l M d c n pc lv (.ref w :: st) (mk sh V R) post xp := JV.getf (C := RX2) (T0 := TX2) (N := 22) 19 hd hT.1 (hT.at 0 rfl) rfl in_X2 (by decide) (by rw [hM]; exact q245) rfl rfl kk
theorem fgX2_51 {G : jG} {l : Launch} {M : jM} {d c n pc : Nat} {lv : List (Nat × Value)} {st : List Value} {sh : List jH} {V : Nat → Nat → Int32} {R : Nat → Nat → Option Nat} {post : Option Value → List jC → Prop} {xp : String → List jC → Prop} {w : Nat} (hM : M.1.cls = RX2) (hT : jReg shX2 sh w) (hd : decode M.2.1 pc = .ok (.getfield 51, 3)) (kk : J G l M d c n (pc + 3) lv (.int (V w 0) :: st) (mk sh V R) post xp) : J G l M d c n pc lv (.ref w :: st) (mk sh V R) post xp := JV.getf (C := RX2) (T0 := TX2) (N := 22) 0 hd hT.1 (hT.at 0 rfl) rfl in_X2 (by decide) (by rw [hM]; exact q203) rfl rfl kk
theorem fpX2_51 {G : jG} {l : Launch} {M : jM} {d c n pc : Nat} {lv : List (Nat × Value)} {st : List Value} {sh : List jH} {V : Nat → Nat → Int32} {R : Nat → Nat → Option Nat} {post : Option Value → List jC → Prop} {xp : String → List jC → Prop} {w : Nat} (hM : M.1.cls = RX2) (hT : jReg shX2 sh w) {x9 : Int32} (hd : decode M.2.1 pc = .ok (.putfield 51, 3)) (kk : J G l M d c n (pc + 3) lv st (mk sh (vset V w 0 x9) R) post xp) : J G l M d c n pc lv (.int x9 :: .ref w :: st) (mk sh V R) post xp := JV.puti (C := RX2) (T0 := TX2) (N := 22) (o := 0) 0 hd hT.1 (hT.at 0 rfl) rfl in_X2 tyX2 tyX2_ok nmX2 (by decide) (by rw [hM]; exact q203) rfl rfl (ji_put x9) rfl kk
theorem fgX2_54 {G : jG} {l : Launch} {M : jM} {d c n pc : Nat} {lv : List (Nat × Value)} {st : List Value} {sh : List jH} {V : Nat → Nat → Int32} {R : Nat → Nat → Option Nat} {post : Option Value → List jC → Prop} {xp : String → List jC → Prop} {w : Nat} (hM : M.1.cls = RX2) (hT : jReg shX2 sh w) (hd : decode M.2.1 pc = .ok (.getfield 54, 3)) (kk : J G l M d c n (pc + 3) lv (.int (V w 1) :: st) (mk sh V R) post xp) : J G l M d c n pc lv (.ref w :: st) (mk sh V R) post xp := JV.getf (C := RX2) (T0 := TX2) (N := 22) 1 hd hT.1 (hT.at 0 rfl) rfl in_X2 (by decide) (by rw [hM]; exact q205) rfl rfl kk
theorem fpX2_54 {G : jG} {l : Launch} {M : jM} {d c n pc : Nat} {lv : List (Nat × Value)} {st : List Value} {sh : List jH} {V : Nat → Nat → Int32} {R : Nat → Nat → Option Nat} {post : Option Value → List jC → Prop} {xp : String → List jC → Prop} {w : Nat} (hM : M.1.cls = RX2) (hT : jReg shX2 sh w) {x9 : Int32} (hd : decode M.2.1 pc = .ok (.putfield 54, 3)) (kk : J G l M d c n (pc + 3) lv st (mk sh (vset V w 1 x9) R) post xp) : J G l M d c n pc lv (.int x9 :: .ref w :: st) (mk sh V R) post xp := JV.puti (C := RX2) (T0 := TX2) (N := 22) (o := 0) 1 hd hT.1 (hT.at 0 rfl) rfl in_X2 tyX2 tyX2_ok nmX2 (by decide) (by rw [hM]; exact q205) rfl rfl (ji_put x9) rfl kk
theorem fgX2_57 {G : jG} {l : Launch} {M : jM} {d c n pc : Nat} {lv : List (Nat × Value)} {st : List Value} {sh : List jH} {V : Nat → Nat → Int32} {R : Nat → Nat → Option Nat} {post : Option Value → List jC → Prop} {xp : String → List jC → Prop} {w : Nat} (hM : M.1.cls = RX2) (hT : jReg shX2 sh w) (hd : decode M.2.1 pc = .ok (.getfield 57, 3)) (kk : J G l M d c n (pc + 3) lv (.int (V w 2) :: st) (mk sh V R) post xp) : J G l M d c n pc lv (.ref w :: st) (mk sh V R) post xp := JV.getf (C := RX2) (T0 := TX2) (N := 22) 2 hd hT.1 (hT.at 0 rfl) rfl in_X2 (by decide) (by rw [hM]; exact q208) rfl rfl kk
theorem fpX2_57 {G : jG} {l : Launch} {M : jM} {d c n pc : Nat} {lv : List (Nat × Value)} {st : List Value} {sh : List jH} {V : Nat → Nat → Int32} {R : Nat → Nat → Option Nat} {post : Option Value → List jC → Prop} {xp : String → List jC → Prop} {w : Nat} (hM : M.1.cls = RX2) (hT : jReg shX2 sh w) {x9 : Int32} (hd : decode M.2.1 pc = .ok (.putfield 57, 3)) (kk : J G l M d c n (pc + 3) lv st (mk sh (vset V w 2 x9) R) post xp) : J G l M d c n pc lv (.int x9 :: .ref w :: st) (mk sh V R) post xp := JV.puti (C := RX2) (T0 := TX2) (N := 22) (o := 0) 2 hd hT.1 (hT.at 0 rfl) rfl in_X2 tyX2 tyX2_ok nmX2 (by decide) (by rw [hM]; exact q208) rfl rfl (ji_put x9) rfl kk
theorem fgX2_60 {G : jG} {l : Launch} {M : jM} {d c n pc : Nat} {lv : List (Nat × Value)} {st : List Value} {sh : List jH} {V : Nat → Nat → Int32} {R : Nat → Nat → Option Nat} {post : Option Value → List jC → Prop} {xp : String → List jC → Prop} {w : Nat} (hM : M.1.cls = RX2) (hT : jReg shX2 sh w) (hd : decode M.2.1 pc = .ok (.getfield 60, 3)) (kk : J G l M d c n (pc + 3) lv (.int (V w 3) :: st) (mk sh V R) post xp) : J G l M d c n pc lv (.ref w :: st) (mk sh V R) post xp := JV.getf (C := RX2) (T0 := TX2) (N := 22) 3 hd hT.1 (hT.at 0 rfl) rfl in_X2 (by decide) (by rw [hM]; exact q211) rfl rfl kk
theorem fpX2_60 {G : jG} {l : Launch} {M : jM} {d c n pc : Nat} {lv : List (Nat × Value)} {st : List Value} {sh : List jH} {V : Nat → Nat → Int32} {R : Nat → Nat → Option Nat} {post : Option Value → List jC → Prop} {xp : String → List jC → Prop} {w : Nat} (hM : M.1.cls = RX2) (hT : jReg shX2 sh w) {x9 : Int32} (hd : decode M.2.1 pc = .ok (.putfield 60, 3)) (kk : J G l M d c n (pc + 3) lv st (mk sh (vset V w 3 x9) R) post xp) : J G l M d c n pc lv (.int x9 :: .ref w :: st) (mk sh V R) post xp := JV.puti (C := RX2) (T0 := TX2) (N := 22) (o := 0) 3 hd hT.1 (hT.at 0 rfl) rfl in_X2 tyX2 tyX2_ok nmX2 (by decide) (by rw [hM]; exact q211) rfl rfl (ji_put x9) rfl kk
theorem fgX2_63 {G : jG} {l : Launch} {M : jM} {d c n pc : Nat} {lv : List (Nat × Value)} {st : List Value} {sh : List jH} {V : Nat → Nat → Int32} {R : Nat → Nat → Option Nat} {post : Option Value → List jC → Prop} {xp : String → List jC → Prop} {w : Nat} (hM : M.1.cls = RX2) (hT : jReg shX2 sh w) (hd : decode M.2.1 pc = .ok (.getfield 63, 3)) (kk : J G l M d c n (pc + 3) lv (.int (V w 4) :: st) (mk sh V R) post xp) : J G l M d c n pc lv (.ref w :: st) (mk sh V R) post xp := JV.getf (C := RX2) (T0 := TX2) (N := 22) 4 hd hT.1 (hT.at 0 rfl) rfl in_X2 (by decide) (by rw [hM]; exact q213) rfl rfl kk
theorem fpX2_63 {G : jG} {l : Launch} {M : jM} {d c n pc : Nat} {lv : List (Nat × Value)} {st : List Value} {sh : List jH} {V : Nat → Nat → Int32} {R : Nat → Nat → Option Nat} {post : Option Value → List jC → Prop} {xp : String → List jC → Prop} {w : Nat} (hM : M.1.cls = RX2) (hT : jReg shX2 sh w) {x9 : Int32} (hd : decode M.2.1 pc = .ok (.putfield 63, 3)) (kk : J G l M d c n (pc + 3) lv st (mk sh (vset V w 4 x9) R) post xp) : J G l M d c n pc lv (.int x9 :: .ref w :: st) (mk sh V R) post xp := JV.puti (C := RX2) (T0 := TX2) (N := 22) (o := 0) 4 hd hT.1 (hT.at 0 rfl) rfl in_X2 tyX2 tyX2_ok nmX2 (by decide) (by rw [hM]; exact q213) rfl rfl (ji_put x9) rfl kk
theorem fgX2_66 {G : jG} {l : Launch} {M : jM} {d c n pc : Nat} {lv : List (Nat × Value)} {st : List Value} {sh : List jH} {V : Nat → Nat → Int32} {R : Nat → Nat → Option Nat} {post : Option Value → List jC → Prop} {xp : String → List jC → Prop} {w : Nat} (hM : M.1.cls = RX2) (hT : jReg shX2 sh w) (hd : decode M.2.1 pc = .ok (.getfield 66, 3)) (kk : J G l M d c n (pc + 3) lv (.int (V w 5) :: st) (mk sh V R) post xp) : J G l M d c n pc lv (.ref w :: st) (mk sh V R) post xp := JV.getf (C := RX2) (T0 := TX2) (N := 22) 5 hd hT.1 (hT.at 0 rfl) rfl in_X2 (by decide) (by rw [hM]; exact q215) rfl rfl kk
theorem fpX2_66 {G : jG} {l : Launch} {M : jM} {d c n pc : Nat} {lv : List (Nat × Value)} {st : List Value} {sh : List jH} {V : Nat → Nat → Int32} {R : Nat → Nat → Option Nat} {post : Option Value → List jC → Prop} {xp : String → List jC → Prop} {w : Nat} (hM : M.1.cls = RX2) (hT : jReg shX2 sh w) {x9 : Int32} (hd : decode M.2.1 pc = .ok (.putfield 66, 3)) (kk : J G l M d c n (pc + 3) lv st (mk sh (vset V w 5 x9) R) post xp) : J G l M d c n pc lv (.int x9 :: .ref w :: st) (mk sh V R) post xp := JV.puti (C := RX2) (T0 := TX2) (N := 22) (o := 0) 5 hd hT.1 (hT.at 0 rfl) rfl in_X2 tyX2 tyX2_ok nmX2 (by decide) (by rw [hM]; exact q215) rfl rfl (ji_put x9) rfl kk
theorem fgX2_69 {G : jG} {l : Launch} {M : jM} {d c n pc : Nat} {lv : List (Nat × Value)} {st : List Value} {sh : List jH} {V : Nat → Nat → Int32} {R : Nat → Nat → Option Nat} {post : Option Value → List jC → Prop} {xp : String → List jC → Prop} {w : Nat} (hM : M.1.cls = RX2) (hT : jReg shX2 sh w) (hd : decode M.2.1 pc = .ok (.getfield 69, 3)) (kk : J G l M d c n (pc + 3) lv (.int (V w 6) :: st) (mk sh V R) post xp) : J G l M d c n pc lv (.ref w :: st) (mk sh V R) post xp := JV.getf (C := RX2) (T0 := TX2) (N := 22) 6 hd hT.1 (hT.at 0 rfl) rfl in_X2 (by decide) (by rw [hM]; exact q217) rfl rfl kk
theorem fpX2_69 {G : jG} {l : Launch} {M : jM} {d c n pc : Nat} {lv : List (Nat × Value)} {st : List Value} {sh : List jH} {V : Nat → Nat → Int32} {R : Nat → Nat → Option Nat} {post : Option Value → List jC → Prop} {xp : String → List jC → Prop} {w : Nat} (hM : M.1.cls = RX2) (hT : jReg shX2 sh w) {x9 : Int32} (hd : decode M.2.1 pc = .ok (.putfield 69, 3)) (kk : J G l M d c n (pc + 3) lv st (mk sh (vset V w 6 x9) R) post xp) : J G l M d c n pc lv (.int x9 :: .ref w :: st) (mk sh V R) post xp := JV.puti (C := RX2) (T0 := TX2) (N := 22) (o := 0) 6 hd hT.1 (hT.at 0 rfl) rfl in_X2 tyX2 tyX2_ok nmX2 (by decide) (by rw [hM]; exact q217) rfl rfl (ji_put x9) rfl kk
theorem fgX2_72 {G : jG} {l : Launch} {M : jM} {d c n pc : Nat} {lv : List (Nat × Value)} {st : List Value} {sh : List jH} {V : Nat → Nat → Int32} {R : Nat → Nat → Option Nat} {post : Option Value → List jC → Prop} {xp : String → List jC → Prop} {w : Nat} (hM : M.1.cls = RX2) (hT : jReg shX2 sh w) (hd : decode M.2.1 pc = .ok (.getfield 72, 3)) (kk : J G l M d c n (pc + 3) lv (.int (V w 7) :: st) (mk sh V R) post xp) : J G l M d c n pc lv (.ref w :: st) (mk sh V R) post xp := JV.getf (C := RX2) (T0 := TX2) (N := 22) 7 hd hT.1 (hT.at 0 rfl) rfl in_X2 (by decide) (by rw [hM]; exact q219) rfl rfl kk
theorem fpX2_72 {G : jG} {l : Launch} {M : jM} {d c n pc : Nat} {lv : List (Nat × Value)} {st : List Value} {sh : List jH} {V : Nat → Nat → Int32} {R : Nat → Nat → Option Nat} {post : Option Value → List jC → Prop} {xp : String → List jC → Prop} {w : Nat} (hM : M.1.cls = RX2) (hT : jReg shX2 sh w) {x9 : Int32} (hd : decode M.2.1 pc = .ok (.putfield 72, 3)) (kk : J G l M d c n (pc + 3) lv st (mk sh (vset V w 7 x9) R) post xp) : J G l M d c n pc lv (.int x9 :: .ref w :: st) (mk sh V R) post xp := JV.puti (C := RX2) (T0 := TX2) (N := 22) (o := 0) 7 hd hT.1 (hT.at 0 rfl) rfl in_X2 tyX2 tyX2_ok nmX2 (by decide) (by rw [hM]; exact q219) rfl rfl (ji_put x9) rfl kk
theorem fpX2_75 {G : jG} {l : Launch} {M : jM} {d c n pc : Nat} {lv : List (Nat × Value)} {st : List Value} {sh : List jH} {V : Nat → Nat → Int32} {R : Nat → Nat → Option Nat} {post : Option Value → List jC → Prop} {xp : String → List jC → Prop} {w : Nat} (hM : M.1.cls = RX2) (hT : jReg shX2 sh w) {o9 : Option Nat} (hd : decode M.2.1 pc = .ok (.putfield 75, 3)) (kk : J G l M d c n (pc + 3) lv st (mk sh V (rset R w 20 o9)) post xp) : J G l M d c n pc lv (va_rf o9 :: .ref w :: st) (mk sh V R) post xp := JV.putr (C := RX2) (T0 := TX2) (N := 22) (o := 0) 20 hd hT.1 (hT.at 0 rfl) rfl in_X2 tyX2 tyX2_ok nmX2 (by decide) (by rw [hM]; exact q247) rfl rfl (jq_put _ (Or.inl ⟨_, rfl⟩)) rfl kk
theorem fgX2_75 {G : jG} {l : Launch} {M : jM} {d c n pc : Nat} {lv : List (Nat × Value)} {st : List Value} {sh : List jH} {V : Nat → Nat → Int32} {R : Nat → Nat → Option Nat} {post : Option Value → List jC → Prop} {xp : String → List jC → Prop} {w : Nat} (hM : M.1.cls = RX2) (hT : jReg shX2 sh w) (hd : decode M.2.1 pc = .ok (.getfield 75, 3)) (kk : J G l M d c n (pc + 3) lv (va_rf (R w 20) :: st) (mk sh V R) post xp) : J G l M d c n pc lv (.ref w :: st) (mk sh V R) post xp := JV.getf (C := RX2) (T0 := TX2) (N := 22) 20 hd hT.1 (hT.at 0 rfl) rfl in_X2 (by decide) (by rw [hM]; exact q247) rfl rfl kk
theorem fpX2_83 {G : jG} {l : Launch} {M : jM} {d c n pc : Nat} {lv : List (Nat × Value)} {st : List Value} {sh : List jH} {V : Nat → Nat → Int32} {R : Nat → Nat → Option Nat} {post : Option Value → List jC → Prop} {xp : String → List jC → Prop} {w : Nat} (hM : M.1.cls = RX2) (hT : jReg shX2 sh w) {x9 : Int32} (hd : decode M.2.1 pc = .ok (.putfield 83, 3)) (kk : J G l M d c n (pc + 3) lv st (mk sh (vset V w 21 x9) R) post xp) : J G l M d c n pc lv (.int x9 :: .ref w :: st) (mk sh V R) post xp := JV.puti (C := RX2) (T0 := TX2) (N := 22) (o := 0) 21 hd hT.1 (hT.at 0 rfl) rfl in_X2 tyX2 tyX2_ok nmX2 (by decide) (by rw [hM]; exact q249) rfl rfl (ji_put x9) rfl kk
abbrev MX2_likens : jM := (yX2_likens, cX2_likens, 3, some (.object "VisitingHours$World"), [])
-- VisitingHours$World.likens(LVisitingHours$World;)LVisitingHours$World;
def wX2_likens_159 (w : Nat) (w1 : Nat) (sh : List jH) (Q : (Nat → Nat → Int32) → (Nat → Nat → Option Nat) → Prop) : Nat → (Nat → Nat → Int32) → (Nat → Nat → Option Nat) → Int32 → Prop
  | 0, _, _, _ => False
  | f + 1, V, R, x2 =>
    (((8 : Int32) ≤ x2 → Q (vset (vcpy V (w1 + 35) (w + 35) 0 0 360) w 21 (0 : Int32)) R) ∧ (¬ (8 : Int32) ≤ x2 → (vp_in x2 8 ∧ (vp_in x2 8 ∧ (vp_in x2 8 ∧ (vp_in x2 8 ∧ (vp_in x2 8 ∧ (vp_in x2 8 ∧ (∀ y210 : Int32, y210 = x2 + (1 : Int32) → wX2_likens_159 w w1 sh Q f (vcpy (vcpy (vcpy V ((w1 + 8) + 1 + x2.toNatClampNeg) ((w + 8) + 1 + x2.toNatClampNeg) 0 0 8) ((w1 + 17) + 1 + x2.toNatClampNeg) ((w + 17) + 1 + x2.toNatClampNeg) 0 0 8) ((w1 + 26) + 1 + x2.toNatClampNeg) ((w + 26) + 1 + x2.toNatClampNeg) 0 0 8) R y210)))))))))
theorem rX2_likens_159 {G : jG} {l : Launch} {d : Nat} {c n : Nat} (htr : l.stackTraces = false) (hdd : 4 ≤ d) {sh : List jH} {w : Nat} {w1 : Nat} (hT : jReg shX2 sh w) (hW1 : jReg shX2 sh w1) {Q : (Nat → Nat → Int32) → (Nat → Nat → Option Nat) → Prop} : ∀ (f : Nat) (V : Nat → Nat → Int32) (R : Nat → Nat → Option Nat) (x2 : Int32), wX2_likens_159 w w1 sh Q f V R x2 → J G l MX2_likens d c n 159 [(0, .ref w), (1, .ref w1), (2, .int x2)] [] (mk sh V R) (jTe sh w Q) jNo := by
  intro f
  induction f with
  | zero =>
    intro V R x2 hw
    rw [wX2_likens_159] at hw
    exact hw.elim
  | succ f ih =>
    intro V R x2 hw
    rw [wX2_likens_159] at hw
    refine J.iload_n 2 dX2_likens_159 rfl ?_
    refine J.bipush (v := (8 : Int32)) dX2_likens_160 (by decide) ?_
    refine J.icmp_ge 216 dX2_likens_162 (by decide) ⟨fun c162 => ?_, fun c162 => ?_⟩
    · obtain ⟨hw, -⟩ := hw
      specialize hw c162
      refine J.aload_n 1 dX2_likens_216 rfl ?_
      refine fgX2_48 rfl hW1 dX2_likens_217 ?_
      refine J.aload_n 0 dX2_likens_220 rfl ?_
      refine fgX2_48 rfl hT dX2_likens_221 ?_
      refine jrow_X2 rfl htr (by decide) (hW1.at 35 rfl) (hW1.ge 35) (hT.at 35 rfl) (hT.ge 35) dX2_likens_224 (by omega) (Nat.le_of_ble_eq_true rfl) ?_
      refine J.aload_n 0 dX2_likens_227 rfl ?_
      refine J.iconst (v := (0 : Int32)) dX2_likens_228 (by decide) ?_
      refine fpX2_83 rfl hT dX2_likens_229 ?_
      refine J.aload_n 0 dX2_likens_232 rfl ?_
      exact J.aret rfl (Or.inl ⟨_, rfl⟩) (Or.inr ⟨_, rfl⟩) dX2_likens_233 ⟨_, _, rfl, rfl, hw⟩
    · obtain ⟨-, hw⟩ := hw
      specialize hw c162
      refine J.aload_n 1 dX2_likens_165 rfl ?_
      refine fgX2_39 rfl hW1 dX2_likens_166 ?_
      refine J.iload_n 2 dX2_likens_169 rfl ?_
      obtain ⟨h170, hw⟩ := hw
      refine JV.grid dX2_likens_170 (hW1.ge 8) (hW1.at 8 rfl) h170 ?_
      refine J.aload_n 0 dX2_likens_171 rfl ?_
      refine fgX2_39 rfl hT dX2_likens_172 ?_
      refine J.iload_n 2 dX2_likens_175 rfl ?_
      obtain ⟨h176, hw⟩ := hw
      refine JV.grid dX2_likens_176 (hT.ge 8) (hT.at 8 rfl) h176 ?_
      refine jrow_X2 rfl htr (by decide) (jrowL hW1 h170) (jrowg hW1.1) (jrowL hT h176) (jrowg hT.1) dX2_likens_177 (by omega) (Nat.le_of_ble_eq_true rfl) ?_
      refine J.aload_n 1 dX2_likens_180 rfl ?_
      refine fgX2_42 rfl hW1 dX2_likens_181 ?_
      refine J.iload_n 2 dX2_likens_184 rfl ?_
      obtain ⟨h185, hw⟩ := hw
      refine JV.grid dX2_likens_185 (hW1.ge 17) (hW1.at 17 rfl) h185 ?_
      refine J.aload_n 0 dX2_likens_186 rfl ?_
      refine fgX2_42 rfl hT dX2_likens_187 ?_
      refine J.iload_n 2 dX2_likens_190 rfl ?_
      obtain ⟨h191, hw⟩ := hw
      refine JV.grid dX2_likens_191 (hT.ge 17) (hT.at 17 rfl) h191 ?_
      refine jrow_X2 rfl htr (by decide) (jrowV hW1 h185) (jrowg hW1.1) (jrowV hT h191) (jrowg hT.1) dX2_likens_192 (by omega) (Nat.le_of_ble_eq_true rfl) ?_
      refine J.aload_n 1 dX2_likens_195 rfl ?_
      refine fgX2_45 rfl hW1 dX2_likens_196 ?_
      refine J.iload_n 2 dX2_likens_199 rfl ?_
      obtain ⟨h200, hw⟩ := hw
      refine JV.grid dX2_likens_200 (hW1.ge 26) (hW1.at 26 rfl) h200 ?_
      refine J.aload_n 0 dX2_likens_201 rfl ?_
      refine fgX2_45 rfl hT dX2_likens_202 ?_
      refine J.iload_n 2 dX2_likens_205 rfl ?_
      obtain ⟨h206, hw⟩ := hw
      refine JV.grid dX2_likens_206 (hT.ge 26) (hT.at 26 rfl) h206 ?_
      refine jrow_X2 rfl htr (by decide) (jrowB hW1 h200) (jrowg hW1.1) (jrowB hT h206) (jrowg hT.1) dX2_likens_207 (by omega) (Nat.le_of_ble_eq_true rfl) ?_
      refine J.iincN 2 (K := (1 : Int32)) (lv' := fun y210 => [(2, .int y210), (0, .ref w), (1, .ref w1)]) dX2_likens_210 rfl (by decide) (by decide) (fun _ => rfl) hw (fun y210 hw => ?_)
      refine J.goto 159 dX2_likens_213 (by decide) ?_
      exact J.pick [1, 2, 0] rfl (ih _ _ _ hw)
def wX2_likens (w : Nat) (w1 : Nat) (sh : List jH) (V : Nat → Nat → Int32) (R : Nat → Nat → Option Nat) (Q : (Nat → Nat → Int32) → (Nat → Nat → Option Nat) → Prop) : Prop :=
  (∀ y5 : Int32, y5 = (V w1 0) → (∀ y13 : Int32, y13 = ((vset V w 0 y5) w1 1) → (∀ y21 : Int32, y21 = ((vset (vset V w 0 y5) w 1 y13) w1 2) → (∀ y29 : Int32, y29 = ((vset (vset (vset V w 0 y5) w 1 y13) w 2 y21) w1 3) → (∀ y37 : Int32, y37 = ((vset (vset (vset (vset V w 0 y5) w 1 y13) w 2 y21) w 3 y29) w1 4) → (∀ y45 : Int32, y45 = ((vset (vset (vset (vset (vset V w 0 y5) w 1 y13) w 2 y21) w 3 y29) w 4 y37) w1 5) → (∀ y53 : Int32, y53 = ((vset (vset (vset (vset (vset (vset V w 0 y5) w 1 y13) w 2 y21) w 3 y29) w 4 y37) w 5 y45) w1 6) → (∀ y61 : Int32, y61 = ((vset (vset (vset (vset (vset (vset (vset V w 0 y5) w 1 y13) w 2 y21) w 3 y29) w 4 y37) w 5 y45) w 6 y53) w1 7) → (∀ y69 : Int32, y69 = ((vset (vset (vset (vset (vset (vset (vset (vset V w 0 y5) w 1 y13) w 2 y21) w 3 y29) w 4 y37) w 5 y45) w 6 y53) w 7 y61) w1 8) → (∀ o74 : Option Nat, o74 = (R w1 20) → (∃ f9, wX2_likens_159 w w1 sh Q f9 (vcpy (vcpy (vcpy (vcpy (vcpy (vcpy (vcpy (vset (vset (vset (vset (vset (vset (vset (vset (vset V w 0 y5) w 1 y13) w 2 y21) w 3 y29) w 4 y37) w 5 y45) w 6 y53) w 7 y61) w 8 y69) (w1 + 1) (w + 1) 0 0 8) (w1 + 2) (w + 2) 0 0 8) (w1 + 3) (w + 3) 0 0 8) (w1 + 4) (w + 4) 0 0 8) (w1 + 5) (w + 5) 0 0 8) (w1 + 6) (w + 6) 0 0 8) (w1 + 7) (w + 7) 0 0 8) (rset R w 20 o74) (0 : Int32))))))))))))
theorem mX2_likens {G : jG} {l : Launch} {d : Nat} (htr : l.stackTraces = false) (hdd : 4 ≤ d) {sh : List jH} {V : Nat → Nat → Int32} {R : Nat → Nat → Option Nat} {w : Nat} {w1 : Nat} (hT : jReg shX2 sh w) (hW1 : jReg shX2 sh w1) {Q : (Nat → Nat → Int32) → (Nat → Nat → Option Nat) → Prop} (hw : wX2_likens w w1 sh V R Q) : JM G l MX2_likens d 0 0 [.ref w, .ref w1] (mk sh V R) (jTe sh w Q) jNo := by
  refine JM.intro (by decide) rfl htr (Nat.le_of_ble_eq_true rfl) ?_
  show J G l MX2_likens d 0 0 0 [(0, .ref w), (1, .ref w1)] [] (mk sh V R) _ _
  unfold wX2_likens at hw
  refine J.aload_n 0 dX2_likens_0 rfl ?_
  refine J.aload_n 1 dX2_likens_1 rfl ?_
  refine fgX2_51 rfl hW1 dX2_likens_2 ?_
  refine J.nm hw (fun y5 hw => ?_)
  refine fpX2_51 rfl hT dX2_likens_5 ?_
  refine J.aload_n 0 dX2_likens_8 rfl ?_
  refine J.aload_n 1 dX2_likens_9 rfl ?_
  refine fgX2_54 rfl hW1 dX2_likens_10 ?_
  refine J.nm hw (fun y13 hw => ?_)
  refine fpX2_54 rfl hT dX2_likens_13 ?_
  refine J.aload_n 0 dX2_likens_16 rfl ?_
  refine J.aload_n 1 dX2_likens_17 rfl ?_
  refine fgX2_57 rfl hW1 dX2_likens_18 ?_
  refine J.nm hw (fun y21 hw => ?_)
  refine fpX2_57 rfl hT dX2_likens_21 ?_
  refine J.aload_n 0 dX2_likens_24 rfl ?_
  refine J.aload_n 1 dX2_likens_25 rfl ?_
  refine fgX2_60 rfl hW1 dX2_likens_26 ?_
  refine J.nm hw (fun y29 hw => ?_)
  refine fpX2_60 rfl hT dX2_likens_29 ?_
  refine J.aload_n 0 dX2_likens_32 rfl ?_
  refine J.aload_n 1 dX2_likens_33 rfl ?_
  refine fgX2_63 rfl hW1 dX2_likens_34 ?_
  refine J.nm hw (fun y37 hw => ?_)
  refine fpX2_63 rfl hT dX2_likens_37 ?_
  refine J.aload_n 0 dX2_likens_40 rfl ?_
  refine J.aload_n 1 dX2_likens_41 rfl ?_
  refine fgX2_66 rfl hW1 dX2_likens_42 ?_
  refine J.nm hw (fun y45 hw => ?_)
  refine fpX2_66 rfl hT dX2_likens_45 ?_
  refine J.aload_n 0 dX2_likens_48 rfl ?_
  refine J.aload_n 1 dX2_likens_49 rfl ?_
  refine fgX2_69 rfl hW1 dX2_likens_50 ?_
  refine J.nm hw (fun y53 hw => ?_)
  refine fpX2_69 rfl hT dX2_likens_53 ?_
  refine J.aload_n 0 dX2_likens_56 rfl ?_
  refine J.aload_n 1 dX2_likens_57 rfl ?_
  refine fgX2_72 rfl hW1 dX2_likens_58 ?_
  refine J.nm hw (fun y61 hw => ?_)
  refine fpX2_72 rfl hT dX2_likens_61 ?_
  refine J.aload_n 0 dX2_likens_64 rfl ?_
  refine J.aload_n 1 dX2_likens_65 rfl ?_
  refine fgX2_9 rfl hW1 dX2_likens_66 ?_
  refine J.nm hw (fun y69 hw => ?_)
  refine fpX2_9 rfl hT dX2_likens_69 ?_
  refine J.aload_n 0 dX2_likens_72 rfl ?_
  refine J.aload_n 1 dX2_likens_73 rfl ?_
  refine fgX2_75 rfl hW1 dX2_likens_74 ?_
  refine J.nmq hw (fun o74 hw => ?_)
  refine fpX2_75 (o9 := o74) rfl hT dX2_likens_77 ?_
  refine J.aload_n 1 dX2_likens_80 rfl ?_
  refine fgX2_15 rfl hW1 dX2_likens_81 ?_
  refine J.aload_n 0 dX2_likens_84 rfl ?_
  refine fgX2_15 rfl hT dX2_likens_85 ?_
  refine jrow_X2 rfl htr (by decide) (hW1.at 1 rfl) (hW1.ge 1) (hT.at 1 rfl) (hT.ge 1) dX2_likens_88 (by omega) (Nat.le_of_ble_eq_true rfl) ?_
  refine J.aload_n 1 dX2_likens_91 rfl ?_
  refine fgX2_19 rfl hW1 dX2_likens_92 ?_
  refine J.aload_n 0 dX2_likens_95 rfl ?_
  refine fgX2_19 rfl hT dX2_likens_96 ?_
  refine jrow_X2 rfl htr (by decide) (hW1.at 2 rfl) (hW1.ge 2) (hT.at 2 rfl) (hT.ge 2) dX2_likens_99 (by omega) (Nat.le_of_ble_eq_true rfl) ?_
  refine J.aload_n 1 dX2_likens_102 rfl ?_
  refine fgX2_22 rfl hW1 dX2_likens_103 ?_
  refine J.aload_n 0 dX2_likens_106 rfl ?_
  refine fgX2_22 rfl hT dX2_likens_107 ?_
  refine jrow_X2 rfl htr (by decide) (hW1.at 3 rfl) (hW1.ge 3) (hT.at 3 rfl) (hT.ge 3) dX2_likens_110 (by omega) (Nat.le_of_ble_eq_true rfl) ?_
  refine J.aload_n 1 dX2_likens_113 rfl ?_
  refine fgX2_25 rfl hW1 dX2_likens_114 ?_
  refine J.aload_n 0 dX2_likens_117 rfl ?_
  refine fgX2_25 rfl hT dX2_likens_118 ?_
  refine jrow_X2 rfl htr (by decide) (hW1.at 4 rfl) (hW1.ge 4) (hT.at 4 rfl) (hT.ge 4) dX2_likens_121 (by omega) (Nat.le_of_ble_eq_true rfl) ?_
  refine J.aload_n 1 dX2_likens_124 rfl ?_
  refine fgX2_28 rfl hW1 dX2_likens_125 ?_
  refine J.aload_n 0 dX2_likens_128 rfl ?_
  refine fgX2_28 rfl hT dX2_likens_129 ?_
  refine jrow_X2 rfl htr (by decide) (hW1.at 5 rfl) (hW1.ge 5) (hT.at 5 rfl) (hT.ge 5) dX2_likens_132 (by omega) (Nat.le_of_ble_eq_true rfl) ?_
  refine J.aload_n 1 dX2_likens_135 rfl ?_
  refine fgX2_31 rfl hW1 dX2_likens_136 ?_
  refine J.aload_n 0 dX2_likens_139 rfl ?_
  refine fgX2_31 rfl hT dX2_likens_140 ?_
  refine jrow_X2 rfl htr (by decide) (hW1.at 6 rfl) (hW1.ge 6) (hT.at 6 rfl) (hT.ge 6) dX2_likens_143 (by omega) (Nat.le_of_ble_eq_true rfl) ?_
  refine J.aload_n 1 dX2_likens_146 rfl ?_
  refine fgX2_34 rfl hW1 dX2_likens_147 ?_
  refine J.aload_n 0 dX2_likens_150 rfl ?_
  refine fgX2_34 rfl hT dX2_likens_151 ?_
  refine jrow_X2 rfl htr (by decide) (hW1.at 7 rfl) (hW1.ge 7) (hT.at 7 rfl) (hT.ge 7) dX2_likens_154 (by omega) (Nat.le_of_ble_eq_true rfl) ?_
  refine J.iconst (v := (0 : Int32)) dX2_likens_157 (by decide) ?_
  refine J.istore_n (lv' := [(2, .int (0 : Int32)), (0, .ref w), (1, .ref w1)]) dX2_likens_158 (by decide) rfl ?_
  obtain ⟨f9, hw⟩ := hw
  exact J.pick [1, 2, 0] rfl (rX2_likens_159 htr hdd hT hW1 f9 _ _ _ hw)
theorem fgX1_10 {G : jG} {l : Launch} {M : jM} {d c n pc : Nat} {lv : List (Nat × Value)} {st : List Value} {sh : List jH} {V : Nat → Nat → Int32} {R : Nat → Nat → Option Nat} {post : Option Value → List jC → Prop} {xp : String → List jC → Prop} {x : Nat} (hM : M.1.cls = RX1) (hT : jReg shX1 sh x) (hd : decode M.2.1 pc = .ok (.getfield 10, 3)) (kk : J G l M d c n (pc + 3) lv (.ref (x + 1) :: st) (mk sh V R) post xp) : J G l M d c n pc lv (.ref x :: st) (mk sh V R) post xp := JV.getf (C := RX1) (T0 := TX1) (N := 16) 0 hd hT.1 (hT.at 0 rfl) rfl in_X1 (by decide) (by rw [hM]; exact q432) rfl rfl kk
theorem fgX1_16 {G : jG} {l : Launch} {M : jM} {d c n pc : Nat} {lv : List (Nat × Value)} {st : List Value} {sh : List jH} {V : Nat → Nat → Int32} {R : Nat → Nat → Option Nat} {post : Option Value → List jC → Prop} {xp : String → List jC → Prop} {x : Nat} (hM : M.1.cls = RX1) (hT : jReg shX1 sh x) (hd : decode M.2.1 pc = .ok (.getfield 16, 3)) (kk : J G l M d c n (pc + 3) lv (.ref (x + 37) :: st) (mk sh V R) post xp) : J G l M d c n pc lv (.ref x :: st) (mk sh V R) post xp := JV.getf (C := RX1) (T0 := TX1) (N := 16) 1 hd hT.1 (hT.at 0 rfl) rfl in_X1 (by decide) (by rw [hM]; exact q434) rfl rfl kk
theorem fgX1_42 {G : jG} {l : Launch} {M : jM} {d c n pc : Nat} {lv : List (Nat × Value)} {st : List Value} {sh : List jH} {V : Nat → Nat → Int32} {R : Nat → Nat → Option Nat} {post : Option Value → List jC → Prop} {xp : String → List jC → Prop} {x : Nat} (hM : M.1.cls = RX1) (hT : jReg shX1 sh x) (hd : decode M.2.1 pc = .ok (.getfield 42, 3)) (kk : J G l M d c n (pc + 3) lv (.ref (x + 148) :: st) (mk sh V R) post xp) : J G l M d c n pc lv (.ref x :: st) (mk sh V R) post xp := JV.getf (C := RX1) (T0 := TX1) (N := 16) 8 hd hT.1 (hT.at 0 rfl) rfl in_X1 (by decide) (by rw [hM]; exact q441) rfl rfl kk
theorem fpX1_82 {G : jG} {l : Launch} {M : jM} {d c n pc : Nat} {lv : List (Nat × Value)} {st : List Value} {sh : List jH} {V : Nat → Nat → Int32} {R : Nat → Nat → Option Nat} {post : Option Value → List jC → Prop} {xp : String → List jC → Prop} {r : Nat} (hM : M.1.cls = RX1) (hT : jReg shX3 sh r) {x9 : Int32} (hd : decode M.2.1 pc = .ok (.putfield 82, 3)) (kk : J G l M d c n (pc + 3) lv st (mk sh (vset V r 5 x9) R) post xp) : J G l M d c n pc lv (.int x9 :: .ref r :: st) (mk sh V R) post xp := JV.putiN (C := RX3) (T0 := TX3) (N := 7) (o := 0) 5 hd hT.1 (hT.at 0 rfl) rfl in_X3 tyX3 tyX3_ok nmX3 (by decide) (by rw [hM]; exact nw313) rfl rfl (ji_put x9) rfl kk
theorem fgX1_271 {G : jG} {l : Launch} {M : jM} {d c n pc : Nat} {lv : List (Nat × Value)} {st : List Value} {sh : List jH} {V : Nat → Nat → Int32} {R : Nat → Nat → Option Nat} {post : Option Value → List jC → Prop} {xp : String → List jC → Prop} {w : Nat} (hM : M.1.cls = RX1) (hT : jReg shX2 sh w) (hd : decode M.2.1 pc = .ok (.getfield 271, 3)) (kk : J G l M d c n (pc + 3) lv (.int (V w 0) :: st) (mk sh V R) post xp) : J G l M d c n pc lv (.ref w :: st) (mk sh V R) post xp := JV.getfN (C := RX2) (T0 := TX2) (N := 22) 0 hd hT.1 (hT.at 0 rfl) rfl in_X2 (by decide) (by rw [hM]; exact nw204) rfl rfl kk
theorem fpX1_271 {G : jG} {l : Launch} {M : jM} {d c n pc : Nat} {lv : List (Nat × Value)} {st : List Value} {sh : List jH} {V : Nat → Nat → Int32} {R : Nat → Nat → Option Nat} {post : Option Value → List jC → Prop} {xp : String → List jC → Prop} {w : Nat} (hM : M.1.cls = RX1) (hT : jReg shX2 sh w) {x9 : Int32} (hd : decode M.2.1 pc = .ok (.putfield 271, 3)) (kk : J G l M d c n (pc + 3) lv st (mk sh (vset V w 0 x9) R) post xp) : J G l M d c n pc lv (.int x9 :: .ref w :: st) (mk sh V R) post xp := JV.putiN (C := RX2) (T0 := TX2) (N := 22) (o := 0) 0 hd hT.1 (hT.at 0 rfl) rfl in_X2 tyX2 tyX2_ok nmX2 (by decide) (by rw [hM]; exact nw204) rfl rfl (ji_put x9) rfl kk
theorem jatX1_276 : ∀ w ∈ vx_at0 RX1 276 "java/lang/UnsupportedOperationException" ["java/lang/RuntimeException", "java/lang/Exception"], w ∈ lw_all ∨ w ∈ jnw :=
  List.forall_mem_cons.mpr ⟨Or.inl q163, List.forall_mem_cons.mpr ⟨Or.inl q1023, List.forall_mem_cons.mpr ⟨Or.inl q1032, List.forall_mem_cons.mpr ⟨Or.inl q1040, List.forall_mem_cons.mpr ⟨Or.inl q1043, List.forall_mem_cons.mpr ⟨Or.inl q1045, List.forall_mem_cons.mpr ⟨Or.inl q1024, List.forall_mem_cons.mpr ⟨Or.inl q1025, List.forall_mem_cons.mpr ⟨Or.inl q193, List.forall_mem_cons.mpr ⟨Or.inl q194, List.forall_mem_cons.mpr ⟨Or.inl q1026, List.forall_mem_cons.mpr ⟨Or.inl q1031, List.forall_mem_cons.mpr ⟨Or.inl q1041, List.forall_mem_cons.mpr ⟨Or.inl q1136, List.forall_mem_cons.mpr ⟨Or.inl q1013, List.forall_mem_cons.mpr ⟨Or.inl q1137, List.forall_mem_cons.mpr ⟨Or.inl q1015, List.forall_mem_cons.mpr ⟨Or.inl q1138, List.forall_mem_cons.mpr ⟨Or.inl q1017, List.forall_mem_cons.mpr ⟨Or.inl q1027, List.forall_mem_cons.mpr ⟨Or.inl q1029, List.forall_mem_cons.mpr ⟨Or.inl q1019, List.forall_mem_cons.mpr ⟨Or.inl q1380, List.forall_mem_cons.mpr ⟨Or.inl q1381, List.forall_mem_cons.mpr ⟨Or.inl q1382, List.forall_mem_cons.mpr ⟨Or.inl q1364, List.forall_mem_cons.mpr ⟨Or.inr nw1004, List.forall_mem_cons.mpr ⟨Or.inl q1364, List.forall_mem_cons.mpr ⟨Or.inl q1365, List.forall_mem_cons.mpr ⟨Or.inl q1366, List.forall_mem_cons.mpr ⟨Or.inl q1367, List.forall_mem_cons.mpr ⟨Or.inr nw1006, List.forall_mem_cons.mpr ⟨Or.inl q1367, List.forall_mem_cons.mpr ⟨Or.inl q1368, List.forall_mem_cons.mpr ⟨Or.inl q1369, List.forall_mem_cons.mpr ⟨Or.inl q1024, List.forall_mem_cons.mpr ⟨Or.inr nw1008, List.forall_mem_cons.mpr ⟨Or.inl q1379, List.forall_mem_cons.mpr ⟨Or.inl q1371, List.forall_mem_cons.mpr ⟨Or.inr nw1372, List.forall_mem_cons.mpr ⟨Or.inl q1373, List.forall_mem_cons.mpr ⟨Or.inl q1038, List.forall_mem_cons.mpr ⟨Or.inl q1374, List.forall_mem_cons.mpr ⟨Or.inl q1375, List.forall_mem_cons.mpr ⟨Or.inl q1376, List.forall_mem_cons.mpr ⟨Or.inl q1377, List.forall_mem_cons.mpr ⟨Or.inl q1134, List.forall_mem_cons.mpr ⟨Or.inl q1021, List.forall_mem_cons.mpr ⟨Or.inl q1378, fun _ h => absurd h List.not_mem_nil⟩⟩⟩⟩⟩⟩⟩⟩⟩⟩⟩⟩⟩⟩⟩⟩⟩⟩⟩⟩⟩⟩⟩⟩⟩⟩⟩⟩⟩⟩⟩⟩⟩⟩⟩⟩⟩⟩⟩⟩⟩⟩⟩⟩⟩⟩⟩⟩⟩
theorem jagX1_276 : (Cond.classLink RX1 274 "java/lang/UnsupportedOperationException" :: Cond.initialized "java/lang/UnsupportedOperationException" :: vx_at0 RX1 276 "java/lang/UnsupportedOperationException" ["java/lang/RuntimeException", "java/lang/Exception"]).all vx_ot = true := by decide +kernel
theorem nrX1_277 {G : jG} {l : Launch} {M : jM} {d c n pc : Nat} {lv : List (Nat × Value)} {rest : List Value} {g : List jC} {post : Option Value → List jC → Prop} {xp : String → List jC → Prop} (hM : M.1.cls = RX1) (htr : l.stackTraces = false) {h : Nat} {fs9 : List Value} (hk9 : g[h]? = some (.inr (15, fs9))) {Q : List jC → Prop} (hd : decode M.2.1 pc = .ok (.invokevirtual 277, 3)) (hdd : 0 + 1 ≤ d) (hw8 : (rest.map fun v => v.category).sum ≤ 8) (hw : wJ2_clear g h Q) (kk : ∀ g', Q g' → J G l M d c n (pc + 3) lv rest g' post xp) : J G l M d c n pc lv (.ref h :: rest) g post xp :=
  J.callV (As := []) (hcw := by rw [hM]; exact lw_V q788 q789 q790 q150 q791) (mJ2_clear htr (Nat.le_refl _) hw) hd rfl ⟨15, _, _, hk9, rfl, rfl, fun _ => rfl⟩ ⟨rfl, by decide, by decide, by show _ = some 0; decide +kernel⟩ hw8 ⟨hdd, by decide⟩ jcc0 (fun r9 g9 h9 => by obtain ⟨rfl, h⟩ := h9; exact kk g9 h) jNo.x
abbrev MX1_ground : jM := (yX1_ground, cX1_ground, 2, some .int, [(19, 35, 38, 266)])
theorem uX1_256 {G : jG} {l : Launch} {M : jM} {d c n pc : Nat} {lv : List (Nat × Value)} {rest : List Value} {post : Option Value → List jC → Prop} {xp : String → List jC → Prop} (hM : M.1.cls = RX1) (htr : l.stackTraces = false) {sh : List jH} {V : Nat → Nat → Int32} {R : Nat → Nat → Option Nat} {r : Nat} (hT : jReg shX3 sh r) {Q : (Nat → Nat → Int32) → Prop} (hd : decode M.2.1 pc = .ok (.invokevirtual 256, 3)) (hdd : 0 + 1 ≤ d) (hw8 : (rest.map fun v => v.category).sum ≤ 8) (hw : wX3_begins r V Q) (kk : ∀ V', Q V' → J G l M d c n (pc + 3) lv rest (mk sh V' R) post xp) : J G l M d c n pc lv (.ref r :: rest) (mk sh V R) post xp := by
  exact J.callV (As := []) (hcw := by rw [hM]; exact lw_V q814 q815 q816 q146 q817) (mX3_begins htr hT hw) hd rfl ⟨2, _, _, mk_at (hT.at 0 rfl), rfl, rfl, fun _ => rfl⟩ ⟨rfl, by decide, by decide, by show _ = some 0; decide +kernel⟩ hw8 ⟨hdd, by decide⟩ jcc0 (fun r9 g9 h9 => by obtain ⟨V9, rfl, rfl, h⟩ := h9; exact kk V9 h) jNo.x
theorem uX1_259 {G : jG} {l : Launch} {M : jM} {d c n pc : Nat} {lv : List (Nat × Value)} {rest : List Value} {post : Option Value → List jC → Prop} {xp : String → List jC → Prop} (hM : M.1.cls = RX1) (htr : l.stackTraces = false) {sh : List jH} {V : Nat → Nat → Int32} {R : Nat → Nat → Option Nat} {w : Nat} {w1 : Nat} (hT : jReg shX2 sh w) (hW1 : jReg shX2 sh w1) {Q : (Nat → Nat → Int32) → (Nat → Nat → Option Nat) → Prop} (hd : decode M.2.1 pc = .ok (.invokevirtual 259, 3)) (hdd : 4 + 1 ≤ d) (hw8 : (rest.map fun v => v.category).sum ≤ 8) (hw : wX2_likens w w1 sh V R Q) (kk : ∀ V' R', Q V' R' → J G l M d c n (pc + 3) lv (.ref w :: rest) (mk sh V' R') post xp) : J G l M d c n pc lv (.ref w1 :: .ref w :: rest) (mk sh V R) post xp := by
  exact J.callV (As := [.ref w1]) (hcw := by rw [hM]; exact lw_V q772 q773 q774 q145 q775) (mX2_likens htr (Nat.le_refl _) hT hW1 hw) hd rfl ⟨1, _, _, mk_at (hT.at 0 rfl), rfl, rfl, fun _ => rfl⟩ ⟨rfl, by decide, by decide, by show _ = some 1; decide +kernel⟩ hw8 ⟨hdd, by decide⟩ jcc0 (fun r9 g9 h9 => by obtain ⟨V9, R9, rfl, rfl, h⟩ := h9; exact kk V9 R9 h) jNo.x
theorem uX1_263 {G : jG} {l : Launch} {M : jM} {d c n pc : Nat} {lv : List (Nat × Value)} {rest : List Value} {post : Option Value → List jC → Prop} {xp : String → List jC → Prop} (hM : M.1.cls = RX1) (htr : l.stackTraces = false) {sh : List jH} {V : Nat → Nat → Int32} {R : Nat → Nat → Option Nat} {x : Nat} {w1 : Nat} (hT : jReg shX1 sh x) (hW1 : jReg shX2 sh w1) {c1 n1 cq nq : Nat} {Q : List jH → (Nat → Nat → Int32) → (Nat → Nat → Option Nat) → Prop} {X : String → List jH → (Nat → Nat → Int32) → (Nat → Nat → Option Nat) → Prop} (hd : decode M.2.1 pc = .ok (.invokevirtual 263, 3)) (hdd : 13 + 1 ≤ d) (hw8 : (rest.map fun v => v.category).sum ≤ 8) (hw : wX1_groundText x w1 sh V R c1 n1 Q X) (hcc : c1 + c ≤ cq ∧ n1 + n ≤ nq) (kk : ∀ sh' V' R', Q sh' V' R' → J G l M d c n (pc + 3) lv rest (mk sh' V' R') post xp) (kx : ∀ E sh' V' R', X E sh' V' R' → JX G l M d c n pc lv E (mk sh' V' R') post xp) : J G l M d cq nq pc lv (.ref w1 :: .ref x :: rest) (mk sh V R) post xp := by
  exact J.callV (As := [.ref w1]) (hcw := by rw [hM]; exact lw_V q818 q820 qs18 q144 q821) (mX1_groundText htr (Nat.le_refl _) hT hW1 hw) hd rfl ⟨0, _, _, mk_at (hT.at 0 rfl), rfl, rfl, fun _ => rfl⟩ ⟨rfl, by decide, by decide, by show _ = some 1; decide +kernel⟩ hw8 ⟨hdd, by decide⟩ hcc (fun r9 g9 h9 => by obtain ⟨s9, V9, R9, rfl, rfl, h⟩ := h9; exact kk s9 V9 R9 h) (fun E9 g9 h9 => by obtain ⟨s9, V9, R9, rfl, h⟩ := h9; exact kx E9 s9 V9 R9 h)
theorem uX1_268 {G : jG} {l : Launch} {M : jM} {d c n pc : Nat} {lv : List (Nat × Value)} {rest : List Value} {post : Option Value → List jC → Prop} {xp : String → List jC → Prop} (hM : M.1.cls = RX1) (htr : l.stackTraces = false) {sh : List jH} {V : Nat → Nat → Int32} {R : Nat → Nat → Option Nat} {x : Nat} (hT : jReg shX1 sh x) {Q : (Nat → Nat → Int32) → Prop} (hd : decode M.2.1 pc = .ok (.invokevirtual 268, 3)) (hdd : 8 + 1 ≤ d) (hw8 : (rest.map fun v => v.category).sum ≤ 8) (hw : wX1_fails x V Q (fun _ _ => False)) (kk : ∀ V', Q V' → J G l M d c n (pc + 3) lv rest (mk sh V' R) post xp) : J G l M d c n pc lv (.ref x :: rest) (mk sh V R) post xp := by
  exact J.callV (c' := 0) (n' := 0) (As := []) (hcw := by rw [hM]; exact lw_V q1355 q1357 qs31 q144 q1358) (mX1_fails htr hT hw (Or.inl (fun _ _ h => h))) hd rfl ⟨0, _, _, mk_at (hT.at 0 rfl), rfl, rfl, fun _ => rfl⟩ ⟨rfl, by decide, by decide, by show _ = some 0; decide +kernel⟩ hw8 ⟨hdd, by decide⟩ jcc0 (fun r9 g9 h9 => by obtain ⟨V9, rfl, rfl, h⟩ := h9; exact kk V9 h) (fun E9 g9 h9 => by obtain ⟨_, _, h⟩ := h9; exact h.elim)
theorem uxX1_268 {G : jG} {l : Launch} {M : jM} {d c n pc : Nat} {lv : List (Nat × Value)} {rest : List Value} {post : Option Value → List jC → Prop} {xp : String → List jC → Prop} (hM : M.1.cls = RX1) (htr : l.stackTraces = false) {sh : List jH} {V : Nat → Nat → Int32} {R : Nat → Nat → Option Nat} {x : Nat} (hT : jReg shX1 sh x) {X : String → (Nat → Nat → Int32) → Prop} (hd : decode M.2.1 pc = .ok (.invokevirtual 268, 3)) (hdd : 8 + 1 ≤ d) (hw8 : (rest.map fun v => v.category).sum ≤ 8) (hw : wX1_fails x V (fun _ => False) X) (hb : (∀ E V', ¬ X E V') ∨ 1 ≤ c ∧ 6 ≤ n) (kx : ∀ E V', X E V' → JX G l M d 0 0 pc lv E (mk sh V' R) post xp) : J G l M d c n pc lv (.ref x :: rest) (mk sh V R) post xp := by
  exact J.callV (c := 0) (n := 0) (c' := c) (n' := n) (As := []) (hcw := by rw [hM]; exact lw_V q1355 q1357 qs31 q144 q1358) (mX1_fails htr hT hw hb) hd rfl ⟨0, _, _, mk_at (hT.at 0 rfl), rfl, rfl, fun _ => rfl⟩ ⟨rfl, by decide, by decide, by show _ = some 0; decide +kernel⟩ hw8 ⟨hdd, by decide⟩ ⟨by omega, by omega⟩ (fun r9 g9 h9 => by obtain ⟨_, _, _, h⟩ := h9; exact h.elim) (fun E9 g9 h9 => by obtain ⟨V9, rfl, h⟩ := h9; exact kx E9 V9 h)
-- VisitingHours.ground()I
def wX1_ground (x : Nat) (sh : List jH) (V : Nat → Nat → Int32) (R : Nat → Nat → Option Nat) (c : Nat) (n : Nat) (Q : Int32 → List jH → (Nat → Nat → Int32) → (Nat → Nat → Option Nat) → Prop) (X : String → List jH → (Nat → Nat → Int32) → (Nat → Nat → Option Nat) → Prop) : Prop :=
  (wX3_begins (x + 109) V (fun V4 => (wX2_likens (x + 37) (x + 1) sh V4 R (fun V15 R15 => (∃ c124 n124 c224 n224 : Nat, c124 + c224 ≤ c ∧ n124 + n224 ≤ n ∧ (wX1_groundText x (x + 37) sh V15 R15 c124 n124 (fun sh24 V24 R24 => (jReg shX1 sh24 x ∧ ((¬ ((vset V24 (x + 109) 5 (-1 : Int32)) (x + 1) 0) = (12 : Int32) → (∀ y73 : Int32, y73 = (((vset V24 (x + 109) 5 (-1 : Int32)) (x + 37) 0) + (1 : Int32)) → (wX2_likens (x + 1) (x + 37) sh24 (vset (vset V24 (x + 109) 5 (-1 : Int32)) (x + 37) 0 y73) R24 (fun V84 R84 => (∃ fs92 : List Value, (mk sh24 V84 R84)[(x + 148)]? = some (.inr (15, fs92)) ∧ wJ2_clear (mk sh24 V84 R84) (x + 148) (fun g92 => (∃ (sh92 : List jH) (V92 : Nat → Nat → Int32) (R92 : Nat → Nat → Option Nat), g92 = mk sh92 V92 R92 ∧ (jReg shX1 sh92 x ∧ Q (V92 (x + 1) 0) sh92 V92 R92)))))))) ∧ (((vset V24 (x + 109) 5 (-1 : Int32)) (x + 1) 0) = (12 : Int32) → (∃ c55 n55, c224 = c55 + 1 ∧ n224 = n55 + 6 ∧ X "java/lang/UnsupportedOperationException" sh24 (vset V24 (x + 109) 5 (-1 : Int32)) R24))))) (fun E9 shx Vx Rx => (jReg shX1 shx x ∧ ((E9 = "VisitingHours$Wrong" ∧ ((wX1_fails x Vx (fun V40 => ((¬ (V40 (x + 1) 0) = (12 : Int32) → (∀ y73 : Int32, y73 = ((V40 (x + 37) 0) + (1 : Int32)) → (wX2_likens (x + 1) (x + 37) shx (vset V40 (x + 37) 0 y73) Rx (fun V84 R84 => (∃ fs92 : List Value, (mk shx V84 R84)[(x + 148)]? = some (.inr (15, fs92)) ∧ wJ2_clear (mk shx V84 R84) (x + 148) (fun g92 => (∃ (sh92 : List jH) (V92 : Nat → Nat → Int32) (R92 : Nat → Nat → Option Nat), g92 = mk sh92 V92 R92 ∧ (jReg shX1 sh92 x ∧ Q (V92 (x + 1) 0) sh92 V92 R92)))))))) ∧ ((V40 (x + 1) 0) = (12 : Int32) → (∃ c55 n55, c224 = c55 + 1 ∧ n224 = n55 + 6 ∧ X "java/lang/UnsupportedOperationException" shx V40 Rx)))) (fun _ _ => False)) ∨ (wX1_fails x Vx (fun _ => False) (fun E9 Vx => X E9 shx Vx Rx) ∧ 1 ≤ c224 ∧ 6 ≤ n224))))))))))))
theorem mX1_ground {G : jG} {l : Launch} {d : Nat} (htr : l.stackTraces = false) (hdd : 14 ≤ d) {sh : List jH} {V : Nat → Nat → Int32} {R : Nat → Nat → Option Nat} {c : Nat} {n : Nat} {x : Nat} (hT : jReg shX1 sh x) {Q : Int32 → List jH → (Nat → Nat → Int32) → (Nat → Nat → Option Nat) → Prop} {X : String → List jH → (Nat → Nat → Int32) → (Nat → Nat → Option Nat) → Prop} (hw : wX1_ground x sh V R c n Q X) : JM G l MX1_ground d c n [.ref x] (mk sh V R) (jSr Q) (jSx X) := by
  refine JM.introH (h9 := _) (t9 := _) (by decide) rfl htr (Nat.le_of_ble_eq_true rfl) ?_
  show J G l MX1_ground d c n 0 [(0, .ref x)] [] (mk sh V R) _ _
  unfold wX1_ground at hw
  refine J.aload_n 0 dX1_ground_0 rfl ?_
  refine fgX1_25 rfl hT dX1_ground_1 ?_
  refine uX1_256 rfl htr (hT.sub 109 2 rfl) dX1_ground_4 (by omega) (Nat.le_of_ble_eq_true rfl) hw ?_
  clear hw
  intro V4 hw
  refine J.aload_n 0 dX1_ground_7 rfl ?_
  refine fgX1_16 rfl hT dX1_ground_8 ?_
  refine J.aload_n 0 dX1_ground_11 rfl ?_
  refine fgX1_10 rfl hT dX1_ground_12 ?_
  refine uX1_259 rfl htr (hT.sub 37 36 rfl) (hT.sub 1 36 rfl) dX1_ground_15 (by omega) (Nat.le_of_ble_eq_true rfl) hw ?_
  clear hw
  intro V15 R15 hw
  refine J.pop dX1_ground_18 rfl ?_
  refine J.aload_n 0 dX1_ground_19 rfl ?_
  refine J.aload_n 0 dX1_ground_20 rfl ?_
  refine fgX1_16 rfl hT dX1_ground_21 ?_
  obtain ⟨c124, n124, c224, n224, hc24, hd24, hw⟩ := hw
  refine uX1_263 rfl htr hT (hT.sub 37 36 rfl) dX1_ground_24 (by omega) (Nat.le_of_ble_eq_true rfl) hw ⟨hc24, hd24⟩ ?_ ?_
  rotate_left
  · clear hw
    intro E9 shx Vx Rx hw
    clear hT
    obtain ⟨hT, hw⟩ := hw
    obtain ⟨rfl, hw⟩ := hw
    refine JX.catch1 (nm := "VisitingHours$Wrong") (tableOf []) (jent (19, 35, 38, 266)) (tableOf []) rfl (fun _ h => absurd h List.not_mem_nil) (by decide) (by decide) q813 nw1179 dX1_ground_38 (by decide) ?_
    refine J.aload_n 0 dX1_ground_39 rfl ?_
    rcases hw with hw | hw
    rotate_left
    · refine uxX1_268 rfl htr hT dX1_ground_40 (by omega) (Nat.le_of_ble_eq_true rfl) hw.1 (Or.inr hw.2) ?_
      exact fun E9 Vx h9 => JX.out (by decide) ⟨_, _, _, rfl, h9⟩
    refine uX1_268 rfl htr hT dX1_ground_40 (by omega) (Nat.le_of_ble_eq_true rfl) hw ?_
    clear hw
    intro V40 hw
    refine J.aload_n 0 dX1_ground_43 rfl ?_
    refine fgX1_10 rfl hT dX1_ground_44 ?_
    refine fgX1_271 rfl (hT.sub 1 36 rfl) dX1_ground_47 ?_
    refine J.bipush (v := (12 : Int32)) dX1_ground_50 (by decide) ?_
    refine J.icmp_ne 63 dX1_ground_52 (by decide) ⟨fun c52 => ?_, fun c52 => ?_⟩
    · obtain ⟨hw, -⟩ := hw
      specialize hw c52
      refine J.aload_n 0 dX1_ground_63 rfl ?_
      refine fgX1_16 rfl hT dX1_ground_64 ?_
      refine J.dup dX1_ground_67 rfl ?_
      refine fgX1_271 rfl (hT.sub 37 36 rfl) dX1_ground_68 ?_
      refine J.iconst (v := (1 : Int32)) dX1_ground_71 (by decide) ?_
      refine J.iadd dX1_ground_72 ?_
      refine J.nm hw (fun y73 hw => ?_)
      refine fpX1_271 rfl (hT.sub 37 36 rfl) dX1_ground_73 ?_
      refine J.aload_n 0 dX1_ground_76 rfl ?_
      refine fgX1_10 rfl hT dX1_ground_77 ?_
      refine J.aload_n 0 dX1_ground_80 rfl ?_
      refine fgX1_16 rfl hT dX1_ground_81 ?_
      refine uX1_259 rfl htr (hT.sub 1 36 rfl) (hT.sub 37 36 rfl) dX1_ground_84 (by omega) (Nat.le_of_ble_eq_true rfl) hw ?_
      clear hw
      intro V84 R84 hw
      refine J.pop dX1_ground_87 rfl ?_
      refine J.aload_n 0 dX1_ground_88 rfl ?_
      refine fgX1_42 rfl hT dX1_ground_89 ?_
      obtain ⟨fs92, hk92, hw⟩ := hw
      refine nrX1_277 rfl htr hk92 dX1_ground_92 (by omega) (Nat.le_of_ble_eq_true rfl) hw ?_
      clear hw
      intro g92 hw
      obtain ⟨sh92, V92, R92, rfl, hw⟩ := hw
      clear hT
      obtain ⟨hT, hw⟩ := hw
      refine J.aload_n 0 dX1_ground_95 rfl ?_
      refine fgX1_10 rfl hT dX1_ground_96 ?_
      refine fgX1_271 rfl (hT.sub 1 36 rfl) dX1_ground_99 ?_
      exact J.iret rfl dX1_ground_102 ⟨_, _, _, rfl, _, rfl, hw⟩
    · obtain ⟨-, hw⟩ := hw
      specialize hw c52
      obtain ⟨c55, n55, rfl, rfl, hw⟩ := hw
      exact J.throw0 dX1_ground_55 dX1_ground_58 dX1_ground_59 dX1_ground_62 q1370 q170 jatX1_276 jagX1_276 (by decide) (by decide) (by decide) (by omega) (by decide) (Nat.le_of_ble_eq_true rfl) ⟨_, _, _, rfl, hw⟩
  clear hw
  intro sh24 V24 R24 hw
  clear hT
  obtain ⟨hT, hw⟩ := hw
  refine J.aload_n 0 dX1_ground_27 rfl ?_
  refine fgX1_25 rfl hT dX1_ground_28 ?_
  refine J.iconst (v := (-1 : Int32)) dX1_ground_31 (by decide) ?_
  refine fpX1_82 rfl (hT.sub 109 2 rfl) dX1_ground_32 ?_
  refine J.goto 43 dX1_ground_35 (by decide) ?_
  refine J.aload_n 0 dX1_ground_43 rfl ?_
  refine fgX1_10 rfl hT dX1_ground_44 ?_
  refine fgX1_271 rfl (hT.sub 1 36 rfl) dX1_ground_47 ?_
  refine J.bipush (v := (12 : Int32)) dX1_ground_50 (by decide) ?_
  refine J.icmp_ne 63 dX1_ground_52 (by decide) ⟨fun c52 => ?_, fun c52 => ?_⟩
  · obtain ⟨hw, -⟩ := hw
    specialize hw c52
    refine J.aload_n 0 dX1_ground_63 rfl ?_
    refine fgX1_16 rfl hT dX1_ground_64 ?_
    refine J.dup dX1_ground_67 rfl ?_
    refine fgX1_271 rfl (hT.sub 37 36 rfl) dX1_ground_68 ?_
    refine J.iconst (v := (1 : Int32)) dX1_ground_71 (by decide) ?_
    refine J.iadd dX1_ground_72 ?_
    refine J.nm hw (fun y73 hw => ?_)
    refine fpX1_271 rfl (hT.sub 37 36 rfl) dX1_ground_73 ?_
    refine J.aload_n 0 dX1_ground_76 rfl ?_
    refine fgX1_10 rfl hT dX1_ground_77 ?_
    refine J.aload_n 0 dX1_ground_80 rfl ?_
    refine fgX1_16 rfl hT dX1_ground_81 ?_
    refine uX1_259 rfl htr (hT.sub 1 36 rfl) (hT.sub 37 36 rfl) dX1_ground_84 (by omega) (Nat.le_of_ble_eq_true rfl) hw ?_
    clear hw
    intro V84 R84 hw
    refine J.pop dX1_ground_87 rfl ?_
    refine J.aload_n 0 dX1_ground_88 rfl ?_
    refine fgX1_42 rfl hT dX1_ground_89 ?_
    obtain ⟨fs92, hk92, hw⟩ := hw
    refine nrX1_277 rfl htr hk92 dX1_ground_92 (by omega) (Nat.le_of_ble_eq_true rfl) hw ?_
    clear hw
    intro g92 hw
    obtain ⟨sh92, V92, R92, rfl, hw⟩ := hw
    clear hT
    obtain ⟨hT, hw⟩ := hw
    refine J.aload_n 0 dX1_ground_95 rfl ?_
    refine fgX1_10 rfl hT dX1_ground_96 ?_
    refine fgX1_271 rfl (hT.sub 1 36 rfl) dX1_ground_99 ?_
    exact J.iret rfl dX1_ground_102 ⟨_, _, _, rfl, _, rfl, hw⟩
  · obtain ⟨-, hw⟩ := hw
    specialize hw c52
    obtain ⟨c55, n55, rfl, rfl, hw⟩ := hw
    exact J.throw0 dX1_ground_55 dX1_ground_58 dX1_ground_59 dX1_ground_62 q1370 q170 jatX1_276 jagX1_276 (by decide) (by decide) (by decide) (by omega) (by decide) (Nat.le_of_ble_eq_true rfl) ⟨_, _, _, rfl, hw⟩
