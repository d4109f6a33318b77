abbrev RL : String := RX0
theorem niL_139 {G : jG} {l : Launch} {M : jM} {d c n pc : Nat} {lv : List (Nat × Value)} {rest : List Value} {g : List jC} {post : Option Value → List jC → Prop} {xp : String → List jC → Prop} (hM : M.1.cls = RL) (htr : l.stackTraces = false) {h : Nat} {c1 n1 cq nq : Nat} {Q : List jC → Prop} (hd : decode M.2.1 pc = .ok (.invokespecial 139, 3)) (hdd : 4 + 1 ≤ d) (hw8 : (rest.map fun v => v.category).sum ≤ 8) (hw : wX1_init g c1 n1 h Q) (hcc : c1 + c ≤ cq ∧ n1 + n ≤ nq) (kk : ∀ g', Q g' → J G l M d c n (pc + 3) lv rest g' post xp) : J G l M d cq nq pc lv (.ref h :: rest) g post xp :=
  J.callI (M' := MX1_init) (As := []) (hcw := lw_meth q191) (hini := q144) (hlk := by rw [hM]; exact q189) (hin := q190) (hret := rfl) (mX1_init htr (Nat.le_refl _) hw) hd rfl rfl ⟨by decide, by decide, by show _ = some 0; decide +kernel⟩ hw8 ⟨hdd, by decide⟩ hcc (fun r9 g9 h9 => by obtain ⟨rfl, h⟩ := h9; exact kk g9 h) jNo.x
theorem niL_142 {G : jG} {l : Launch} {M : jM} {d c n pc : Nat} {lv : List (Nat × Value)} {rest : List Value} {g : List jC} {post : Option Value → List jC → Prop} {xp : String → List jC → Prop} (hM : M.1.cls = RL) (htr : l.stackTraces = false) {h : Nat} {c1 n1 cq nq : Nat} {Q : List jC → Prop} (hd : decode M.2.1 pc = .ok (.invokespecial 142, 3)) (hdd : 1 + 1 ≤ d) (hw8 : (rest.map fun v => v.category).sum ≤ 8) (hw : wX6_init g c1 n1 h Q) (hcc : c1 + c ≤ cq ∧ n1 + n ≤ nq) (kk : ∀ g', Q g' → J G l M d c n (pc + 3) lv rest g' post xp) : J G l M d cq nq pc lv (.ref h :: rest) g post xp :=
  J.callI (M' := MX6_init) (As := []) (hcw := lw_meth q2126) (hini := q152) (hlk := by rw [hM]; exact q2124) (hin := q2125) (hret := rfl) (mX6_init htr (Nat.le_refl _) hw) hd rfl rfl ⟨by decide, by decide, by show _ = some 0; decide +kernel⟩ hw8 ⟨hdd, by decide⟩ hcc (fun r9 g9 h9 => by obtain ⟨rfl, h⟩ := h9; exact kk g9 h) jNo.x
abbrev ML_law : jM := (x, cL_law, 7, some .boolean, [])
theorem uL_143 {G : jG} {l : Launch} {M : jM} {d c n pc : Nat} {lv : List (Nat × Value)} {rest : List Value} {post : Option Value → List jC → Prop} {xp : String → List jC → Prop} (hM : M.1.cls = RL) (htr : l.stackTraces = false) {sh : List jH} {V : Nat → Nat → Int32} {R : Nat → Nat → Option Nat} {x : Nat} (hT : jReg shX1 sh x) {a1 : Int32} {a2 : Int32} {a3 : Int32} {a4 : Int32} {a5 : Int32} {c1 n1 cq nq : Nat} {Q : Int32 → List jH → (Nat → Nat → Int32) → (Nat → Nat → Option Nat) → Prop} (hd : decode M.2.1 pc = .ok (.invokevirtual 143, 3)) (hdd : 1 + 1 ≤ d) (hw8 : (rest.map fun v => v.category).sum ≤ 8) (hw : wX1_feed x sh V R c1 n1 a1 a2 a3 a4 a5 Q) (hcc : c1 + c ≤ cq ∧ n1 + n ≤ nq) (kk : ∀ r sh' V' R', Q r sh' V' R' → J G l M d c n (pc + 3) lv (.int r :: rest) (mk sh' V' R') post xp) : J G l M d cq nq pc lv (.int a5 :: .int a4 :: .int a3 :: .int a2 :: .int a1 :: .ref x :: rest) (mk sh V R) post xp := by
  exact J.callV (As := [.int a1, .int a2, .int a3, .int a4, .int a5]) (hcw := by rw [hM]; exact lw_V q482 q483 q484 q144 q485) (mX1_feed htr (Nat.le_refl _) hT hw) hd rfl ⟨0, _, _, mk_at (hT.at 0 rfl), rfl, rfl, fun _ => rfl⟩ ⟨rfl, by decide, by decide, by show _ = some 5; decide +kernel⟩ hw8 ⟨hdd, by decide⟩ hcc (fun r9 g9 h9 => by obtain ⟨s9, V9, R9, rfl, r, rfl, h⟩ := h9; exact kk r s9 V9 R9 h) jNo.x
theorem uL_147 {G : jG} {l : Launch} {M : jM} {d c n pc : Nat} {lv : List (Nat × Value)} {rest : List Value} {post : Option Value → List jC → Prop} {xp : String → List jC → Prop} (hM : M.1.cls = RL) (htr : l.stackTraces = false) {sh : List jH} {V : Nat → Nat → Int32} {R : Nat → Nat → Option Nat} {t : Nat} (hT : jReg shX6 sh t) {a1 : Int32} {a2 : Int32} {a3 : Int32} {a4 : Int32} {a5 : Int32} {Q : Int32 → (Nat → Nat → Int32) → Prop} (hd : decode M.2.1 pc = .ok (.invokevirtual 147, 3)) (hdd : 0 + 1 ≤ d) (hw8 : (rest.map fun v => v.category).sum ≤ 8) (hw : wX6_feed t V a1 a2 a3 a4 a5 Q) (kk : ∀ r V', Q r V' → J G l M d c n (pc + 3) lv (.int r :: rest) (mk sh V' R) post xp) : J G l M d c n pc lv (.int a5 :: .int a4 :: .int a3 :: .int a2 :: .int a1 :: .ref t :: rest) (mk sh V R) post xp := by
  exact J.callV (As := [.int a1, .int a2, .int a3, .int a4, .int a5]) (hcw := by rw [hM]; exact lw_V q2218 q2219 q2220 q152 q2221) (mX6_feed htr hT hw) hd rfl ⟨5, _, _, mk_at (hT.at 0 rfl), rfl, rfl, fun _ => rfl⟩ ⟨rfl, by decide, by decide, by show _ = some 5; decide +kernel⟩ hw8 ⟨hdd, by decide⟩ jcc0 (fun r9 g9 h9 => by obtain ⟨V9, rfl, r, rfl, h⟩ := h9; exact kk r V9 h) jNo.x
theorem uL_148 {G : jG} {l : Launch} {M : jM} {d c n pc : Nat} {lv : List (Nat × Value)} {rest : List Value} {post : Option Value → List jC → Prop} {xp : String → List jC → Prop} (hM : M.1.cls = RL) (htr : l.stackTraces = false) {sh : List jH} {V : Nat → Nat → Int32} {R : Nat → Nat → Option Nat} {x : Nat} (hT : jReg shX1 sh x) {a1 : Int32} {Q : Int32 → (Nat → Nat → Int32) → Prop} (hd : decode M.2.1 pc = .ok (.invokevirtual 148, 3)) (hdd : 1 + 1 ≤ d) (hw8 : (rest.map fun v => v.category).sum ≤ 8) (hw : wX1_end x V a1 Q) (kk : ∀ r V', Q r V' → J G l M d c n (pc + 3) lv (.int r :: rest) (mk sh V' R) post xp) : J G l M d c n pc lv (.int a1 :: .ref x :: rest) (mk sh V R) post xp := by
  exact J.callV (As := [.int a1]) (hcw := by rw [hM]; exact lw_V q490 q491 q492 q144 q493) (mX1_end htr hT hw) hd rfl ⟨0, _, _, mk_at (hT.at 0 rfl), rfl, rfl, fun _ => rfl⟩ ⟨rfl, by decide, by decide, by show _ = some 1; decide +kernel⟩ hw8 ⟨hdd, by decide⟩ jcc0 (fun r9 g9 h9 => by obtain ⟨V9, rfl, r, rfl, h⟩ := h9; exact kk r V9 h) jNo.x
theorem uL_152 {G : jG} {l : Launch} {M : jM} {d c n pc : Nat} {lv : List (Nat × Value)} {rest : List Value} {post : Option Value → List jC → Prop} {xp : String → List jC → Prop} (hM : M.1.cls = RL) (htr : l.stackTraces = false) {sh : List jH} {V : Nat → Nat → Int32} {R : Nat → Nat → Option Nat} {t : Nat} (hT : jReg shX6 sh t) {a1 : Int32} {Q : Int32 → (Nat → Nat → Int32) → Prop} (hd : decode M.2.1 pc = .ok (.invokevirtual 152, 3)) (hdd : 1 + 1 ≤ d) (hw8 : (rest.map fun v => v.category).sum ≤ 8) (hw : wX6_end t V a1 Q) (kk : ∀ r V', Q r V' → J G l M d c n (pc + 3) lv (.int r :: rest) (mk sh V' R) post xp) : J G l M d c n pc lv (.int a1 :: .ref t :: rest) (mk sh V R) post xp := by
  exact J.callV (As := [.int a1]) (hcw := by rw [hM]; exact lw_V q2222 q2223 q2224 q152 q2225) (mX6_end htr hT hw) hd rfl ⟨5, _, _, mk_at (hT.at 0 rfl), rfl, rfl, fun _ => rfl⟩ ⟨rfl, by decide, by decide, by show _ = some 1; decide +kernel⟩ hw8 ⟨hdd, by decide⟩ jcc0 (fun r9 g9 h9 => by obtain ⟨V9, rfl, r, rfl, h⟩ := h9; exact kk r V9 h) jNo.x
theorem uL_153 {G : jG} {l : Launch} {M : jM} {d c n pc : Nat} {lv : List (Nat × Value)} {rest : List Value} {post : Option Value → List jC → Prop} {xp : String → List jC → Prop} (hM : M.1.cls = RL) (htr : l.stackTraces = false) {sh : List jH} {V : Nat → Nat → Int32} {R : Nat → Nat → Option Nat} {x : Nat} (hT : jReg shX1 sh x) {a2 : Nat} {c1 n1 cq nq : Nat} {Q : Int32 → List jH → (Nat → Nat → Int32) → (Nat → Nat → Option Nat) → Prop} (hd : decode M.2.1 pc = .ok (.invokestatic 153, 3)) (hdd : 15 + 1 ≤ d) (hw8 : (rest.map fun v => v.category).sum ≤ 8) (hw : wX0_ground x sh V R c1 n1 a2 Q) (hcc : c1 + c ≤ cq ∧ n1 + n ≤ nq) (kk : ∀ r sh' V' R', Q r sh' V' R' → J G l M d c n (pc + 3) lv (.int r :: rest) (mk sh' V' R') post xp) : J G l M d cq nq pc lv (.ref a2 :: .ref x :: rest) (mk sh V R) post xp := by
  exact J.callSX (As := [.ref x, .ref a2]) (hcw := by rw [hM]; exact lw_SW q804 q805 q143 q806) (mX0_ground htr (Nat.le_refl _) hT hw) hd rfl ⟨by decide, by decide, by show _ = some 2; decide +kernel⟩ hw8 ⟨hdd, by decide⟩ hcc (fun r9 g9 h9 => by obtain ⟨s9, V9, R9, rfl, r, rfl, h⟩ := h9; exact kk r s9 V9 R9 h) jNo.x
theorem uL_158 {G : jG} {l : Launch} {M : jM} {d c n pc : Nat} {lv : List (Nat × Value)} {rest : List Value} {post : Option Value → List jC → Prop} {xp : String → List jC → Prop} (hM : M.1.cls = RL) (htr : l.stackTraces = false) {sh : List jH} {V : Nat → Nat → Int32} {R : Nat → Nat → Option Nat} {t : Nat} (hT : jReg shX6 sh t) {Q : Int32 → (Nat → Nat → Int32) → Prop} (hd : decode M.2.1 pc = .ok (.invokevirtual 158, 3)) (hdd : 69 + 1 ≤ d) (hw8 : (rest.map fun v => v.category).sum ≤ 8) (hw : wX6_ground t sh R V Q) (kk : ∀ r V', Q r V' → J G l M d c n (pc + 3) lv (.int r :: rest) (mk sh V' R) post xp) : J G l M d c n pc lv (.ref t :: rest) (mk sh V R) post xp := by
  exact J.callV (As := []) (hcw := by rw [hM]; exact lw_V q2229 q2230 q2231 q152 q2232) (mX6_ground htr (Nat.le_refl _) hT hw) hd rfl ⟨5, _, _, mk_at (hT.at 0 rfl), rfl, rfl, fun _ => rfl⟩ ⟨rfl, by decide, by decide, by show _ = some 0; decide +kernel⟩ hw8 ⟨hdd, by decide⟩ jcc0 (fun r9 g9 h9 => by obtain ⟨V9, rfl, r, rfl, h⟩ := h9; exact kk r V9 h) jNo.x
theorem uL_159 {G : jG} {l : Launch} {M : jM} {d c n pc : Nat} {lv : List (Nat × Value)} {rest : List Value} {post : Option Value → List jC → Prop} {xp : String → List jC → Prop} (hM : M.1.cls = RL) (htr : l.stackTraces = false) {sh : List jH} {V : Nat → Nat → Int32} {R : Nat → Nat → Option Nat} {t : Nat} (hT : jReg shX6 sh t) {Q : Int32 → Prop} (hd : decode M.2.1 pc = .ok (.invokevirtual 159, 3)) (hdd : 0 + 1 ≤ d) (hw8 : (rest.map fun v => v.category).sum ≤ 8) (hw : wX6_thrown t V Q) (kk : ∀ r, Q r → J G l M d c n (pc + 3) lv (.int r :: rest) (mk sh V R) post xp) : J G l M d c n pc lv (.ref t :: rest) (mk sh V R) post xp := by
  exact J.callV (As := []) (hcw := by rw [hM]; exact lw_V q2214 q2215 q2216 q152 q2217) (mX6_thrown htr hT hw) hd rfl ⟨5, _, _, mk_at (hT.at 0 rfl), rfl, rfl, fun _ => rfl⟩ ⟨rfl, by decide, by decide, by show _ = some 0; decide +kernel⟩ hw8 ⟨hdd, by decide⟩ jcc0 (fun r9 g9 h9 => by obtain ⟨rfl, r, rfl, h⟩ := h9; exact kk r h) jNo.x
theorem uL_162 {G : jG} {l : Launch} {M : jM} {d c n pc : Nat} {lv : List (Nat × Value)} {rest : List Value} {post : Option Value → List jC → Prop} {xp : String → List jC → Prop} (hM : M.1.cls = RL) (htr : l.stackTraces = false) {sh : List jH} {V : Nat → Nat → Int32} {R : Nat → Nat → Option Nat} {x : Nat} (hT : jReg shX1 sh x) {a2 : Nat} {c1 n1 cq nq : Nat} {Q : Int32 → List jH → (Nat → Nat → Int32) → (Nat → Nat → Option Nat) → Prop} (hd : decode M.2.1 pc = .ok (.invokestatic 162, 3)) (hdd : 77 + 1 ≤ d) (hw8 : (rest.map fun v => v.category).sum ≤ 8) (hw : wX0_law x sh V R c1 n1 a2 Q) (hcc : c1 + c ≤ cq ∧ n1 + n ≤ nq) (kk : ∀ r sh' V' R', Q r sh' V' R' → J G l M d c n (pc + 3) lv (.int r :: rest) (mk sh' V' R') post xp) : J G l M d cq nq pc lv (.ref a2 :: .ref x :: rest) (mk sh V R) post xp := by
  exact J.callSX (As := [.ref x, .ref a2]) (hcw := by rw [hM]; exact lw_SW q1385 q1386 q143 q1387) (mX0_law htr (Nat.le_refl _) hT hw) hd rfl ⟨by decide, by decide, by show _ = some 2; decide +kernel⟩ hw8 ⟨hdd, by decide⟩ hcc (fun r9 g9 h9 => by obtain ⟨s9, V9, R9, rfl, r, rfl, h⟩ := h9; exact kk r s9 V9 R9 h) jNo.x
theorem uL_164 {G : jG} {l : Launch} {M : jM} {d c n pc : Nat} {lv : List (Nat × Value)} {rest : List Value} {post : Option Value → List jC → Prop} {xp : String → List jC → Prop} (hM : M.1.cls = RL) (htr : l.stackTraces = false) {sh : List jH} {V : Nat → Nat → Int32} {R : Nat → Nat → Option Nat} {t : Nat} (hT : jReg shX6 sh t) {Q : Int32 → (Nat → Nat → Int32) → Prop} (hd : decode M.2.1 pc = .ok (.invokevirtual 164, 3)) (hdd : 69 + 1 ≤ d) (hw8 : (rest.map fun v => v.category).sum ≤ 8) (hw : wX6_law t sh R V Q) (kk : ∀ r V', Q r V' → J G l M d c n (pc + 3) lv (.int r :: rest) (mk sh V' R) post xp) : J G l M d c n pc lv (.ref t :: rest) (mk sh V R) post xp := by
  exact J.callV (As := []) (hcw := by rw [hM]; exact lw_V q2375 q2376 q2377 q152 q2378) (mX6_law htr (Nat.le_refl _) hT hw) hd rfl ⟨5, _, _, mk_at (hT.at 0 rfl), rfl, rfl, fun _ => rfl⟩ ⟨rfl, by decide, by decide, by show _ = some 0; decide +kernel⟩ hw8 ⟨hdd, by decide⟩ jcc0 (fun r9 g9 h9 => by obtain ⟨V9, rfl, r, rfl, h⟩ := h9; exact kk r V9 h) jNo.x
theorem uL_165 {G : jG} {l : Launch} {M : jM} {d c n pc : Nat} {lv : List (Nat × Value)} {rest : List Value} {post : Option Value → List jC → Prop} {xp : String → List jC → Prop} (hM : M.1.cls = RL) (htr : l.stackTraces = false) {sh : List jH} {V : Nat → Nat → Int32} {R : Nat → Nat → Option Nat} {x : Nat} (hT : jReg shX1 sh x) {Q : Int32 → Prop} (hd : decode M.2.1 pc = .ok (.invokevirtual 165, 3)) (hdd : 0 + 1 ≤ d) (hw8 : (rest.map fun v => v.category).sum ≤ 8) (hw : wX1_fault x V Q) (kk : ∀ r, Q r → J G l M d c n (pc + 3) lv (.int r :: rest) (mk sh V R) post xp) : J G l M d c n pc lv (.ref x :: rest) (mk sh V R) post xp := by
  exact J.callV (As := []) (hcw := by rw [hM]; exact lw_V q498 q499 q500 q144 q501) (mX1_fault htr hT hw) hd rfl ⟨0, _, _, mk_at (hT.at 0 rfl), rfl, rfl, fun _ => rfl⟩ ⟨rfl, by decide, by decide, by show _ = some 0; decide +kernel⟩ hw8 ⟨hdd, by decide⟩ jcc0 (fun r9 g9 h9 => by obtain ⟨rfl, r, rfl, h⟩ := h9; exact kk r h) jNo.x
theorem uL_168 {G : jG} {l : Launch} {M : jM} {d c n pc : Nat} {lv : List (Nat × Value)} {rest : List Value} {post : Option Value → List jC → Prop} {xp : String → List jC → Prop} (hM : M.1.cls = RL) (htr : l.stackTraces = false) {sh : List jH} {V : Nat → Nat → Int32} {R : Nat → Nat → Option Nat} {t : Nat} (hT : jReg shX6 sh t) {Q : Int32 → (Nat → Nat → Int32) → Prop} (hd : decode M.2.1 pc = .ok (.invokevirtual 168, 3)) (hdd : 0 + 1 ≤ d) (hw8 : (rest.map fun v => v.category).sum ≤ 8) (hw : wX6_fault t V Q) (kk : ∀ r V', Q r V' → J G l M d c n (pc + 3) lv (.int r :: rest) (mk sh V' R) post xp) : J G l M d c n pc lv (.ref t :: rest) (mk sh V R) post xp := by
  exact J.callV (As := []) (hcw := by rw [hM]; exact lw_V q2379 q2380 q2381 q152 q2382) (mX6_fault htr hT hw) hd rfl ⟨5, _, _, mk_at (hT.at 0 rfl), rfl, rfl, fun _ => rfl⟩ ⟨rfl, by decide, by decide, by show _ = some 0; decide +kernel⟩ hw8 ⟨hdd, by decide⟩ jcc0 (fun r9 g9 h9 => by obtain ⟨V9, rfl, r, rfl, h⟩ := h9; exact kk r V9 h) jNo.x
theorem uL_169 {G : jG} {l : Launch} {M : jM} {d c n pc : Nat} {lv : List (Nat × Value)} {rest : List Value} {post : Option Value → List jC → Prop} {xp : String → List jC → Prop} (hM : M.1.cls = RL) (htr : l.stackTraces = false) {sh : List jH} {V : Nat → Nat → Int32} {R : Nat → Nat → Option Nat} {x : Nat} (hT : jReg shX1 sh x) {a2 : Int32} {a3 : Int32} {a4 : Nat} {c1 n1 cq nq : Nat} {Q : Int32 → List jH → (Nat → Nat → Int32) → (Nat → Nat → Option Nat) → Prop} (hd : decode M.2.1 pc = .ok (.invokestatic 169, 3)) (hdd : 11 + 1 ≤ d) (hw8 : (rest.map fun v => v.category).sum ≤ 8) (hw : wX0_host x sh V R c1 n1 a2 a3 a4 Q) (hcc : c1 + c ≤ cq ∧ n1 + n ≤ nq) (kk : ∀ r sh' V' R', Q r sh' V' R' → J G l M d c n (pc + 3) lv (.int r :: rest) (mk sh' V' R') post xp) : J G l M d cq nq pc lv (.ref a4 :: .int a3 :: .int a2 :: .ref x :: rest) (mk sh V R) post xp := by
  exact J.callSX (As := [.ref x, .int a2, .int a3, .ref a4]) (hcw := by rw [hM]; exact lw_SW q1634 q1635 q143 q1636) (mX0_host htr (Nat.le_refl _) hT hw) hd rfl ⟨by decide, by decide, by show _ = some 4; decide +kernel⟩ hw8 ⟨hdd, by decide⟩ hcc (fun r9 g9 h9 => by obtain ⟨s9, V9, R9, rfl, r, rfl, h⟩ := h9; exact kk r s9 V9 R9 h) jNo.x
theorem uL_172 {G : jG} {l : Launch} {M : jM} {d c n pc : Nat} {lv : List (Nat × Value)} {rest : List Value} {post : Option Value → List jC → Prop} {xp : String → List jC → Prop} (hM : M.1.cls = RL) (htr : l.stackTraces = false) {sh : List jH} {V : Nat → Nat → Int32} {R : Nat → Nat → Option Nat} {t : Nat} (hT : jReg shX6 sh t) {a1 : Int32} {a2 : Int32} {Q : Int32 → (Nat → Nat → Int32) → Prop} (hd : decode M.2.1 pc = .ok (.invokevirtual 172, 3)) (hdd : 2 + 1 ≤ d) (hw8 : (rest.map fun v => v.category).sum ≤ 8) (hw : wX6_host t V a1 a2 Q) (kk : ∀ r V', Q r V' → J G l M d c n (pc + 3) lv (.int r :: rest) (mk sh V' R) post xp) : J G l M d c n pc lv (.int a2 :: .int a1 :: .ref t :: rest) (mk sh V R) post xp := by
  exact J.callV (As := [.int a1, .int a2]) (hcw := by rw [hM]; exact lw_V q2383 q2384 q2385 q152 q2386) (mX6_host htr hT hw) hd rfl ⟨5, _, _, mk_at (hT.at 0 rfl), rfl, rfl, fun _ => rfl⟩ ⟨rfl, by decide, by decide, by show _ = some 2; decide +kernel⟩ hw8 ⟨hdd, by decide⟩ jcc0 (fun r9 g9 h9 => by obtain ⟨V9, rfl, r, rfl, h⟩ := h9; exact kk r V9 h) jNo.x
theorem uL_173 {G : jG} {l : Launch} {M : jM} {d c n pc : Nat} {lv : List (Nat × Value)} {rest : List Value} {post : Option Value → List jC → Prop} {xp : String → List jC → Prop} (hM : M.1.cls = RL) (htr : l.stackTraces = false) {sh : List jH} {V : Nat → Nat → Int32} {R : Nat → Nat → Option Nat} {x : Nat} (hT : jReg shX1 sh x) {a2 : Int32} {a3 : Int32} {a4 : Nat} {c1 n1 cq nq : Nat} {Q : Int32 → List jH → (Nat → Nat → Int32) → (Nat → Nat → Option Nat) → Prop} (hd : decode M.2.1 pc = .ok (.invokestatic 173, 3)) (hdd : 11 + 1 ≤ d) (hw8 : (rest.map fun v => v.category).sum ≤ 8) (hw : wX0_guest x sh V R c1 n1 a2 a3 a4 Q) (hcc : c1 + c ≤ cq ∧ n1 + n ≤ nq) (kk : ∀ r sh' V' R', Q r sh' V' R' → J G l M d c n (pc + 3) lv (.int r :: rest) (mk sh' V' R') post xp) : J G l M d cq nq pc lv (.ref a4 :: .int a3 :: .int a2 :: .ref x :: rest) (mk sh V R) post xp := by
  exact J.callSX (As := [.ref x, .int a2, .int a3, .ref a4]) (hcw := by rw [hM]; exact lw_SW q1709 q1710 q143 q1711) (mX0_guest htr (Nat.le_refl _) hT hw) hd rfl ⟨by decide, by decide, by show _ = some 4; decide +kernel⟩ hw8 ⟨hdd, by decide⟩ hcc (fun r9 g9 h9 => by obtain ⟨s9, V9, R9, rfl, r, rfl, h⟩ := h9; exact kk r s9 V9 R9 h) jNo.x
theorem uL_175 {G : jG} {l : Launch} {M : jM} {d c n pc : Nat} {lv : List (Nat × Value)} {rest : List Value} {post : Option Value → List jC → Prop} {xp : String → List jC → Prop} (hM : M.1.cls = RL) (htr : l.stackTraces = false) {sh : List jH} {V : Nat → Nat → Int32} {R : Nat → Nat → Option Nat} {t : Nat} (hT : jReg shX6 sh t) {a1 : Int32} {a2 : Int32} {Q : Int32 → (Nat → Nat → Int32) → Prop} (hd : decode M.2.1 pc = .ok (.invokevirtual 175, 3)) (hdd : 2 + 1 ≤ d) (hw8 : (rest.map fun v => v.category).sum ≤ 8) (hw : wX6_guest t V a1 a2 Q) (kk : ∀ r V', Q r V' → J G l M d c n (pc + 3) lv (.int r :: rest) (mk sh V' R) post xp) : J G l M d c n pc lv (.int a2 :: .int a1 :: .ref t :: rest) (mk sh V R) post xp := by
  exact J.callV (As := [.int a1, .int a2]) (hcw := by rw [hM]; exact lw_V q2411 q2412 q2413 q152 q2414) (mX6_guest htr hT hw) hd rfl ⟨5, _, _, mk_at (hT.at 0 rfl), rfl, rfl, fun _ => rfl⟩ ⟨rfl, by decide, by decide, by show _ = some 2; decide +kernel⟩ hw8 ⟨hdd, by decide⟩ jcc0 (fun r9 g9 h9 => by obtain ⟨V9, rfl, r, rfl, h⟩ := h9; exact kk r V9 h) jNo.x
theorem uL_176 {G : jG} {l : Launch} {M : jM} {d c n pc : Nat} {lv : List (Nat × Value)} {rest : List Value} {post : Option Value → List jC → Prop} {xp : String → List jC → Prop} (hM : M.1.cls = RL) (htr : l.stackTraces = false) {sh : List jH} {V : Nat → Nat → Int32} {R : Nat → Nat → Option Nat} {x : Nat} (hT : jReg shX1 sh x) {a2 : Int32} {a3 : Int32} {a4 : Int32} {a5 : Nat} {c1 n1 cq nq : Nat} {Q : Int32 → List jH → (Nat → Nat → Int32) → (Nat → Nat → Option Nat) → Prop} (hd : decode M.2.1 pc = .ok (.invokestatic 176, 3)) (hdd : 11 + 1 ≤ d) (hw8 : (rest.map fun v => v.category).sum ≤ 8) (hw : wX0_rank x sh V R c1 n1 a2 a3 a4 a5 Q) (hcc : c1 + c ≤ cq ∧ n1 + n ≤ nq) (kk : ∀ r sh' V' R', Q r sh' V' R' → J G l M d c n (pc + 3) lv (.int r :: rest) (mk sh' V' R') post xp) : J G l M d cq nq pc lv (.ref a5 :: .int a4 :: .int a3 :: .int a2 :: .ref x :: rest) (mk sh V R) post xp := by
  exact J.callSX (As := [.ref x, .int a2, .int a3, .int a4, .ref a5]) (hcw := by rw [hM]; exact lw_SW q1724 q1725 q143 q1726) (mX0_rank htr (Nat.le_refl _) hT hw) hd rfl ⟨by decide, by decide, by show _ = some 5; decide +kernel⟩ hw8 ⟨hdd, by decide⟩ hcc (fun r9 g9 h9 => by obtain ⟨s9, V9, R9, rfl, r, rfl, h⟩ := h9; exact kk r s9 V9 R9 h) jNo.x
theorem uL_179 {G : jG} {l : Launch} {M : jM} {d c n pc : Nat} {lv : List (Nat × Value)} {rest : List Value} {post : Option Value → List jC → Prop} {xp : String → List jC → Prop} (hM : M.1.cls = RL) (htr : l.stackTraces = false) {sh : List jH} {V : Nat → Nat → Int32} {R : Nat → Nat → Option Nat} {t : Nat} (hT : jReg shX6 sh t) {a1 : Int32} {a2 : Int32} {a3 : Int32} {Q : Int32 → (Nat → Nat → Int32) → Prop} (hd : decode M.2.1 pc = .ok (.invokevirtual 179, 3)) (hdd : 2 + 1 ≤ d) (hw8 : (rest.map fun v => v.category).sum ≤ 8) (hw : wX6_rank t V a1 a2 a3 Q) (kk : ∀ r V', Q r V' → J G l M d c n (pc + 3) lv (.int r :: rest) (mk sh V' R) post xp) : J G l M d c n pc lv (.int a3 :: .int a2 :: .int a1 :: .ref t :: rest) (mk sh V R) post xp := by
  exact J.callV (As := [.int a1, .int a2, .int a3]) (hcw := by rw [hM]; exact lw_V q2439 q2440 q2441 q152 q2442) (mX6_rank htr hT hw) hd rfl ⟨5, _, _, mk_at (hT.at 0 rfl), rfl, rfl, fun _ => rfl⟩ ⟨rfl, by decide, by decide, by show _ = some 3; decide +kernel⟩ hw8 ⟨hdd, by decide⟩ jcc0 (fun r9 g9 h9 => by obtain ⟨V9, rfl, r, rfl, h⟩ := h9; exact kk r V9 h) jNo.x
theorem uL_180 {G : jG} {l : Launch} {M : jM} {d c n pc : Nat} {lv : List (Nat × Value)} {rest : List Value} {post : Option Value → List jC → Prop} {xp : String → List jC → Prop} (hM : M.1.cls = RL) (htr : l.stackTraces = false) {sh : List jH} {V : Nat → Nat → Int32} {R : Nat → Nat → Option Nat} {x : Nat} (hT : jReg shX1 sh x) {a2 : Int32} {a3 : Int32} {a4 : Nat} {c1 n1 cq nq : Nat} {Q : Int32 → List jH → (Nat → Nat → Int32) → (Nat → Nat → Option Nat) → Prop} (hd : decode M.2.1 pc = .ok (.invokestatic 180, 3)) (hdd : 11 + 1 ≤ d) (hw8 : (rest.map fun v => v.category).sum ≤ 8) (hw : wX0_booked x sh V R c1 n1 a2 a3 a4 Q) (hcc : c1 + c ≤ cq ∧ n1 + n ≤ nq) (kk : ∀ r sh' V' R', Q r sh' V' R' → J G l M d c n (pc + 3) lv (.int r :: rest) (mk sh' V' R') post xp) : J G l M d cq nq pc lv (.ref a4 :: .int a3 :: .int a2 :: .ref x :: rest) (mk sh V R) post xp := by
  exact J.callSX (As := [.ref x, .int a2, .int a3, .ref a4]) (hcw := by rw [hM]; exact lw_SW q1731 q1732 q143 q1733) (mX0_booked htr (Nat.le_refl _) hT hw) hd rfl ⟨by decide, by decide, by show _ = some 4; decide +kernel⟩ hw8 ⟨hdd, by decide⟩ hcc (fun r9 g9 h9 => by obtain ⟨s9, V9, R9, rfl, r, rfl, h⟩ := h9; exact kk r s9 V9 R9 h) jNo.x
theorem uL_182 {G : jG} {l : Launch} {M : jM} {d c n pc : Nat} {lv : List (Nat × Value)} {rest : List Value} {post : Option Value → List jC → Prop} {xp : String → List jC → Prop} (hM : M.1.cls = RL) (htr : l.stackTraces = false) {sh : List jH} {V : Nat → Nat → Int32} {R : Nat → Nat → Option Nat} {t : Nat} (hT : jReg shX6 sh t) {a1 : Int32} {a2 : Int32} {Q : Int32 → (Nat → Nat → Int32) → Prop} (hd : decode M.2.1 pc = .ok (.invokevirtual 182, 3)) (hdd : 2 + 1 ≤ d) (hw8 : (rest.map fun v => v.category).sum ≤ 8) (hw : wX6_booked t V a1 a2 Q) (kk : ∀ r V', Q r V' → J G l M d c n (pc + 3) lv (.int r :: rest) (mk sh V' R) post xp) : J G l M d c n pc lv (.int a2 :: .int a1 :: .ref t :: rest) (mk sh V R) post xp := by
  exact J.callV (As := [.int a1, .int a2]) (hcw := by rw [hM]; exact lw_V q2447 q2448 q2449 q152 q2450) (mX6_booked htr hT hw) hd rfl ⟨5, _, _, mk_at (hT.at 0 rfl), rfl, rfl, fun _ => rfl⟩ ⟨rfl, by decide, by decide, by show _ = some 2; decide +kernel⟩ hw8 ⟨hdd, by decide⟩ jcc0 (fun r9 g9 h9 => by obtain ⟨V9, rfl, r, rfl, h⟩ := h9; exact kk r V9 h) jNo.x
theorem uL_183 {G : jG} {l : Launch} {M : jM} {d c n pc : Nat} {lv : List (Nat × Value)} {rest : List Value} {post : Option Value → List jC → Prop} {xp : String → List jC → Prop} (hM : M.1.cls = RL) (htr : l.stackTraces = false) {sh : List jH} {V : Nat → Nat → Int32} {R : Nat → Nat → Option Nat} {x : Nat} (hT : jReg shX1 sh x) {a2 : Int32} {a3 : Int32} {a4 : Int32} {a5 : Nat} {c1 n1 cq nq : Nat} {Q : Int32 → List jH → (Nat → Nat → Int32) → (Nat → Nat → Option Nat) → Prop} (hd : decode M.2.1 pc = .ok (.invokestatic 183, 3)) (hdd : 12 + 1 ≤ d) (hw8 : (rest.map fun v => v.category).sum ≤ 8) (hw : wX0_can x sh V R c1 n1 a2 a3 a4 a5 Q) (hcc : c1 + c ≤ cq ∧ n1 + n ≤ nq) (kk : ∀ r sh' V' R', Q r sh' V' R' → J G l M d c n (pc + 3) lv (.int r :: rest) (mk sh' V' R') post xp) : J G l M d cq nq pc lv (.ref a5 :: .int a4 :: .int a3 :: .int a2 :: .ref x :: rest) (mk sh V R) post xp := by
  exact J.callSX (As := [.ref x, .int a2, .int a3, .int a4, .ref a5]) (hcw := by rw [hM]; exact lw_SW q1741 q1742 q143 q1743) (mX0_can htr (Nat.le_refl _) hT hw) hd rfl ⟨by decide, by decide, by show _ = some 5; decide +kernel⟩ hw8 ⟨hdd, by decide⟩ hcc (fun r9 g9 h9 => by obtain ⟨s9, V9, R9, rfl, r, rfl, h⟩ := h9; exact kk r s9 V9 R9 h) jNo.x
theorem uL_186 {G : jG} {l : Launch} {M : jM} {d c n pc : Nat} {lv : List (Nat × Value)} {rest : List Value} {post : Option Value → List jC → Prop} {xp : String → List jC → Prop} (hM : M.1.cls = RL) (htr : l.stackTraces = false) {sh : List jH} {V : Nat → Nat → Int32} {R : Nat → Nat → Option Nat} {t : Nat} (hT : jReg shX6 sh t) {a1 : Int32} {a2 : Int32} {a3 : Int32} {Q : Int32 → (Nat → Nat → Int32) → Prop} (hd : decode M.2.1 pc = .ok (.invokevirtual 186, 3)) (hdd : 3 + 1 ≤ d) (hw8 : (rest.map fun v => v.category).sum ≤ 8) (hw : wX6_can t V a1 a2 a3 Q) (kk : ∀ r V', Q r V' → J G l M d c n (pc + 3) lv (.int r :: rest) (mk sh V' R) post xp) : J G l M d c n pc lv (.int a3 :: .int a2 :: .int a1 :: .ref t :: rest) (mk sh V R) post xp := by
  exact J.callV (As := [.int a1, .int a2, .int a3]) (hcw := by rw [hM]; exact lw_V q2454 q2455 q2456 q152 q2457) (mX6_can htr hT hw) hd rfl ⟨5, _, _, mk_at (hT.at 0 rfl), rfl, rfl, fun _ => rfl⟩ ⟨rfl, by decide, by decide, by show _ = some 3; decide +kernel⟩ hw8 ⟨hdd, by decide⟩ jcc0 (fun r9 g9 h9 => by obtain ⟨V9, rfl, r, rfl, h⟩ := h9; exact kk r V9 h) jNo.x
theorem uL_187 {G : jG} {l : Launch} {M : jM} {d c n pc : Nat} {lv : List (Nat × Value)} {rest : List Value} {post : Option Value → List jC → Prop} {xp : String → List jC → Prop} (hM : M.1.cls = RL) (htr : l.stackTraces = false) {sh : List jH} {V : Nat → Nat → Int32} {R : Nat → Nat → Option Nat} {x : Nat} (hT : jReg shX1 sh x) {a2 : Int32} {a3 : Int32} {a4 : Int32} {a5 : Nat} {c1 n1 cq nq : Nat} {Q : Int32 → List jH → (Nat → Nat → Int32) → (Nat → Nat → Option Nat) → Prop} (hd : decode M.2.1 pc = .ok (.invokestatic 187, 3)) (hdd : 43 + 1 ≤ d) (hw8 : (rest.map fun v => v.category).sum ≤ 8) (hw : wX0_lets x sh V R c1 n1 a2 a3 a4 a5 Q) (hcc : c1 + c ≤ cq ∧ n1 + n ≤ nq) (kk : ∀ r sh' V' R', Q r sh' V' R' → J G l M d c n (pc + 3) lv (.int r :: rest) (mk sh' V' R') post xp) : J G l M d cq nq pc lv (.ref a5 :: .int a4 :: .int a3 :: .int a2 :: .ref x :: rest) (mk sh V R) post xp := by
  exact J.callSX (As := [.ref x, .int a2, .int a3, .int a4, .ref a5]) (hcw := by rw [hM]; exact lw_SW q1752 q1753 q143 q1754) (mX0_lets htr (Nat.le_refl _) hT hw) hd rfl ⟨by decide, by decide, by show _ = some 5; decide +kernel⟩ hw8 ⟨hdd, by decide⟩ hcc (fun r9 g9 h9 => by obtain ⟨s9, V9, R9, rfl, r, rfl, h⟩ := h9; exact kk r s9 V9 R9 h) jNo.x
theorem uL_189 {G : jG} {l : Launch} {M : jM} {d c n pc : Nat} {lv : List (Nat × Value)} {rest : List Value} {post : Option Value → List jC → Prop} {xp : String → List jC → Prop} (hM : M.1.cls = RL) (htr : l.stackTraces = false) {sh : List jH} {V : Nat → Nat → Int32} {R : Nat → Nat → Option Nat} {t : Nat} (hT : jReg shX6 sh t) {a1 : Int32} {a2 : Int32} {a3 : Int32} {Q : Int32 → (Nat → Nat → Int32) → Prop} (hd : decode M.2.1 pc = .ok (.invokevirtual 189, 3)) (hdd : 71 + 1 ≤ d) (hw8 : (rest.map fun v => v.category).sum ≤ 8) (hw : wX6_lets t sh R V a1 a2 a3 Q) (kk : ∀ r V', Q r V' → J G l M d c n (pc + 3) lv (.int r :: rest) (mk sh V' R) post xp) : J G l M d c n pc lv (.int a3 :: .int a2 :: .int a1 :: .ref t :: rest) (mk sh V R) post xp := by
  exact J.callV (As := [.int a1, .int a2, .int a3]) (hcw := by rw [hM]; exact lw_V q2470 q2471 q2472 q152 q2473) (mX6_lets htr (Nat.le_refl _) hT hw) hd rfl ⟨5, _, _, mk_at (hT.at 0 rfl), rfl, rfl, fun _ => rfl⟩ ⟨rfl, by decide, by decide, by show _ = some 3; decide +kernel⟩ hw8 ⟨hdd, by decide⟩ jcc0 (fun r9 g9 h9 => by obtain ⟨V9, rfl, r, rfl, h⟩ := h9; exact kk r V9 h) jNo.x
theorem uL_190 {G : jG} {l : Launch} {M : jM} {d c n pc : Nat} {lv : List (Nat × Value)} {rest : List Value} {post : Option Value → List jC → Prop} {xp : String → List jC → Prop} (hM : M.1.cls = RL) (htr : l.stackTraces = false) {sh : List jH} {V : Nat → Nat → Int32} {R : Nat → Nat → Option Nat} {x : Nat} (hT : jReg shX1 sh x) {a2 : Int32} {a3 : Int32} {a4 : Int32} {a5 : Nat} {c1 n1 cq nq : Nat} {Q : Int32 → List jH → (Nat → Nat → Int32) → (Nat → Nat → Option Nat) → Prop} (hd : decode M.2.1 pc = .ok (.invokestatic 190, 3)) (hdd : 43 + 1 ≤ d) (hw8 : (rest.map fun v => v.category).sum ≤ 8) (hw : wX0_joy x sh V R c1 n1 a2 a3 a4 a5 Q) (hcc : c1 + c ≤ cq ∧ n1 + n ≤ nq) (kk : ∀ r sh' V' R', Q r sh' V' R' → J G l M d c n (pc + 3) lv (.int r :: rest) (mk sh' V' R') post xp) : J G l M d cq nq pc lv (.ref a5 :: .int a4 :: .int a3 :: .int a2 :: .ref x :: rest) (mk sh V R) post xp := by
  exact J.callSX (As := [.ref x, .int a2, .int a3, .int a4, .ref a5]) (hcw := by rw [hM]; exact lw_SW q1759 q1760 q143 q1761) (mX0_joy htr (Nat.le_refl _) hT hw) hd rfl ⟨by decide, by decide, by show _ = some 5; decide +kernel⟩ hw8 ⟨hdd, by decide⟩ hcc (fun r9 g9 h9 => by obtain ⟨s9, V9, R9, rfl, r, rfl, h⟩ := h9; exact kk r s9 V9 R9 h) jNo.x
theorem uL_192 {G : jG} {l : Launch} {M : jM} {d c n pc : Nat} {lv : List (Nat × Value)} {rest : List Value} {post : Option Value → List jC → Prop} {xp : String → List jC → Prop} (hM : M.1.cls = RL) (htr : l.stackTraces = false) {sh : List jH} {V : Nat → Nat → Int32} {R : Nat → Nat → Option Nat} {t : Nat} (hT : jReg shX6 sh t) {a1 : Int32} {a2 : Int32} {a3 : Int32} {Q : Int32 → (Nat → Nat → Int32) → Prop} (hd : decode M.2.1 pc = .ok (.invokevirtual 192, 3)) (hdd : 71 + 1 ≤ d) (hw8 : (rest.map fun v => v.category).sum ≤ 8) (hw : wX6_joy t sh R V a1 a2 a3 Q) (kk : ∀ r V', Q r V' → J G l M d c n (pc + 3) lv (.int r :: rest) (mk sh V' R) post xp) : J G l M d c n pc lv (.int a3 :: .int a2 :: .int a1 :: .ref t :: rest) (mk sh V R) post xp := by
  exact J.callV (As := [.int a1, .int a2, .int a3]) (hcw := by rw [hM]; exact lw_V q2482 q2483 q2484 q152 q2485) (mX6_joy htr (Nat.le_refl _) hT hw) hd rfl ⟨5, _, _, mk_at (hT.at 0 rfl), rfl, rfl, fun _ => rfl⟩ ⟨rfl, by decide, by decide, by show _ = some 3; decide +kernel⟩ hw8 ⟨hdd, by decide⟩ jcc0 (fun r9 g9 h9 => by obtain ⟨V9, rfl, r, rfl, h⟩ := h9; exact kk r V9 h) jNo.x
theorem uL_193 {G : jG} {l : Launch} {M : jM} {d c n pc : Nat} {lv : List (Nat × Value)} {rest : List Value} {post : Option Value → List jC → Prop} {xp : String → List jC → Prop} (hM : M.1.cls = RL) (htr : l.stackTraces = false) {sh : List jH} {V : Nat → Nat → Int32} {R : Nat → Nat → Option Nat} {x : Nat} (hT : jReg shX1 sh x) {a2 : Int32} {a3 : Int32} {a4 : Int32} {a5 : Nat} {c1 n1 cq nq : Nat} {Q : Int32 → List jH → (Nat → Nat → Int32) → (Nat → Nat → Option Nat) → Prop} (hd : decode M.2.1 pc = .ok (.invokestatic 193, 3)) (hdd : 12 + 1 ≤ d) (hw8 : (rest.map fun v => v.category).sum ≤ 8) (hw : wX0_book x sh V R c1 n1 a2 a3 a4 a5 Q) (hcc : c1 + c ≤ cq ∧ n1 + n ≤ nq) (kk : ∀ r sh' V' R', Q r sh' V' R' → J G l M d c n (pc + 3) lv (.int r :: rest) (mk sh' V' R') post xp) : J G l M d cq nq pc lv (.ref a5 :: .int a4 :: .int a3 :: .int a2 :: .ref x :: rest) (mk sh V R) post xp := by
  exact J.callSX (As := [.ref x, .int a2, .int a3, .int a4, .ref a5]) (hcw := by rw [hM]; exact lw_SW q1766 q1767 q143 q1768) (mX0_book htr (Nat.le_refl _) hT hw) hd rfl ⟨by decide, by decide, by show _ = some 5; decide +kernel⟩ hw8 ⟨hdd, by decide⟩ hcc (fun r9 g9 h9 => by obtain ⟨s9, V9, R9, rfl, r, rfl, h⟩ := h9; exact kk r s9 V9 R9 h) jNo.x
theorem uL_195 {G : jG} {l : Launch} {M : jM} {d c n pc : Nat} {lv : List (Nat × Value)} {rest : List Value} {post : Option Value → List jC → Prop} {xp : String → List jC → Prop} (hM : M.1.cls = RL) (htr : l.stackTraces = false) {sh : List jH} {V : Nat → Nat → Int32} {R : Nat → Nat → Option Nat} {t : Nat} (hT : jReg shX6 sh t) {a1 : Int32} {a2 : Int32} {a3 : Int32} {Q : Int32 → (Nat → Nat → Int32) → Prop} (hd : decode M.2.1 pc = .ok (.invokevirtual 195, 3)) (hdd : 3 + 1 ≤ d) (hw8 : (rest.map fun v => v.category).sum ≤ 8) (hw : wX6_book t V a1 a2 a3 Q) (kk : ∀ r V', Q r V' → J G l M d c n (pc + 3) lv (.int r :: rest) (mk sh V' R) post xp) : J G l M d c n pc lv (.int a3 :: .int a2 :: .int a1 :: .ref t :: rest) (mk sh V R) post xp := by
  exact J.callV (As := [.int a1, .int a2, .int a3]) (hcw := by rw [hM]; exact lw_V q2493 q2494 q2495 q152 q2496) (mX6_book htr hT hw) hd rfl ⟨5, _, _, mk_at (hT.at 0 rfl), rfl, rfl, fun _ => rfl⟩ ⟨rfl, by decide, by decide, by show _ = some 3; decide +kernel⟩ hw8 ⟨hdd, by decide⟩ jcc0 (fun r9 g9 h9 => by obtain ⟨V9, rfl, r, rfl, h⟩ := h9; exact kk r V9 h) jNo.x
theorem uL_196 {G : jG} {l : Launch} {M : jM} {d c n pc : Nat} {lv : List (Nat × Value)} {rest : List Value} {post : Option Value → List jC → Prop} {xp : String → List jC → Prop} (hM : M.1.cls = RL) (htr : l.stackTraces = false) {sh : List jH} {V : Nat → Nat → Int32} {R : Nat → Nat → Option Nat} {x : Nat} (hT : jReg shX1 sh x) {a2 : Int32} {a3 : Int32} {a4 : Nat} {c1 n1 cq nq : Nat} {Q : Int32 → List jH → (Nat → Nat → Int32) → (Nat → Nat → Option Nat) → Prop} (hd : decode M.2.1 pc = .ok (.invokestatic 196, 3)) (hdd : 11 + 1 ≤ d) (hw8 : (rest.map fun v => v.category).sum ≤ 8) (hw : wX0_strike x sh V R c1 n1 a2 a3 a4 Q) (hcc : c1 + c ≤ cq ∧ n1 + n ≤ nq) (kk : ∀ r sh' V' R', Q r sh' V' R' → J G l M d c n (pc + 3) lv (.int r :: rest) (mk sh' V' R') post xp) : J G l M d cq nq pc lv (.ref a4 :: .int a3 :: .int a2 :: .ref x :: rest) (mk sh V R) post xp := by
  exact J.callSX (As := [.ref x, .int a2, .int a3, .ref a4]) (hcw := by rw [hM]; exact lw_SW q1796 q1797 q143 q1798) (mX0_strike htr (Nat.le_refl _) hT hw) hd rfl ⟨by decide, by decide, by show _ = some 4; decide +kernel⟩ hw8 ⟨hdd, by decide⟩ hcc (fun r9 g9 h9 => by obtain ⟨s9, V9, R9, rfl, r, rfl, h⟩ := h9; exact kk r s9 V9 R9 h) jNo.x
theorem uL_198 {G : jG} {l : Launch} {M : jM} {d c n pc : Nat} {lv : List (Nat × Value)} {rest : List Value} {post : Option Value → List jC → Prop} {xp : String → List jC → Prop} (hM : M.1.cls = RL) (htr : l.stackTraces = false) {sh : List jH} {V : Nat → Nat → Int32} {R : Nat → Nat → Option Nat} {t : Nat} (hT : jReg shX6 sh t) {a1 : Int32} {a2 : Int32} {Q : Int32 → (Nat → Nat → Int32) → Prop} (hd : decode M.2.1 pc = .ok (.invokevirtual 198, 3)) (hdd : 2 + 1 ≤ d) (hw8 : (rest.map fun v => v.category).sum ≤ 8) (hw : wX6_strike t V a1 a2 Q) (kk : ∀ r V', Q r V' → J G l M d c n (pc + 3) lv (.int r :: rest) (mk sh V' R) post xp) : J G l M d c n pc lv (.int a2 :: .int a1 :: .ref t :: rest) (mk sh V R) post xp := by
  exact J.callV (As := [.int a1, .int a2]) (hcw := by rw [hM]; exact lw_V q2505 q2506 q2507 q152 q2508) (mX6_strike htr hT hw) hd rfl ⟨5, _, _, mk_at (hT.at 0 rfl), rfl, rfl, fun _ => rfl⟩ ⟨rfl, by decide, by decide, by show _ = some 2; decide +kernel⟩ hw8 ⟨hdd, by decide⟩ jcc0 (fun r9 g9 h9 => by obtain ⟨V9, rfl, r, rfl, h⟩ := h9; exact kk r V9 h) jNo.x
theorem uL_199 {G : jG} {l : Launch} {M : jM} {d c n pc : Nat} {lv : List (Nat × Value)} {rest : List Value} {post : Option Value → List jC → Prop} {xp : String → List jC → Prop} (hM : M.1.cls = RL) (htr : l.stackTraces = false) {sh : List jH} {V : Nat → Nat → Int32} {R : Nat → Nat → Option Nat} {x : Nat} (hT : jReg shX1 sh x) {a2 : Int32} {a3 : Int32} {a4 : Int32} {a5 : Nat} {c1 n1 cq nq : Nat} {Q : Int32 → List jH → (Nat → Nat → Int32) → (Nat → Nat → Option Nat) → Prop} (hd : decode M.2.1 pc = .ok (.invokestatic 199, 3)) (hdd : 12 + 1 ≤ d) (hw8 : (rest.map fun v => v.category).sum ≤ 8) (hw : wX0_change x sh V R c1 n1 a2 a3 a4 a5 Q) (hcc : c1 + c ≤ cq ∧ n1 + n ≤ nq) (kk : ∀ r sh' V' R', Q r sh' V' R' → J G l M d c n (pc + 3) lv (.int r :: rest) (mk sh' V' R') post xp) : J G l M d cq nq pc lv (.ref a5 :: .int a4 :: .int a3 :: .int a2 :: .ref x :: rest) (mk sh V R) post xp := by
  exact J.callSX (As := [.ref x, .int a2, .int a3, .int a4, .ref a5]) (hcw := by rw [hM]; exact lw_SW q1803 q1804 q143 q1805) (mX0_change htr (Nat.le_refl _) hT hw) hd rfl ⟨by decide, by decide, by show _ = some 5; decide +kernel⟩ hw8 ⟨hdd, by decide⟩ hcc (fun r9 g9 h9 => by obtain ⟨s9, V9, R9, rfl, r, rfl, h⟩ := h9; exact kk r s9 V9 R9 h) jNo.x
theorem uL_201 {G : jG} {l : Launch} {M : jM} {d c n pc : Nat} {lv : List (Nat × Value)} {rest : List Value} {post : Option Value → List jC → Prop} {xp : String → List jC → Prop} (hM : M.1.cls = RL) (htr : l.stackTraces = false) {sh : List jH} {V : Nat → Nat → Int32} {R : Nat → Nat → Option Nat} {t : Nat} (hT : jReg shX6 sh t) {a1 : Int32} {a2 : Int32} {a3 : Int32} {Q : Int32 → (Nat → Nat → Int32) → Prop} (hd : decode M.2.1 pc = .ok (.invokevirtual 201, 3)) (hdd : 2 + 1 ≤ d) (hw8 : (rest.map fun v => v.category).sum ≤ 8) (hw : wX6_change t V a1 a2 a3 Q) (kk : ∀ r V', Q r V' → J G l M d c n (pc + 3) lv (.int r :: rest) (mk sh V' R) post xp) : J G l M d c n pc lv (.int a3 :: .int a2 :: .int a1 :: .ref t :: rest) (mk sh V R) post xp := by
  exact J.callV (As := [.int a1, .int a2, .int a3]) (hcw := by rw [hM]; exact lw_V q2509 q2510 q2511 q152 q2512) (mX6_change htr hT hw) hd rfl ⟨5, _, _, mk_at (hT.at 0 rfl), rfl, rfl, fun _ => rfl⟩ ⟨rfl, by decide, by decide, by show _ = some 3; decide +kernel⟩ hw8 ⟨hdd, by decide⟩ jcc0 (fun r9 g9 h9 => by obtain ⟨V9, rfl, r, rfl, h⟩ := h9; exact kk r V9 h) jNo.x
theorem uL_202 {G : jG} {l : Launch} {M : jM} {d c n pc : Nat} {lv : List (Nat × Value)} {rest : List Value} {post : Option Value → List jC → Prop} {xp : String → List jC → Prop} (hM : M.1.cls = RL) (htr : l.stackTraces = false) {sh : List jH} {V : Nat → Nat → Int32} {R : Nat → Nat → Option Nat} {x : Nat} (hT : jReg shX1 sh x) {a2 : Int32} {a3 : Int32} {a4 : Nat} {c1 n1 cq nq : Nat} {Q : Int32 → List jH → (Nat → Nat → Int32) → (Nat → Nat → Option Nat) → Prop} (hd : decode M.2.1 pc = .ok (.invokestatic 202, 3)) (hdd : 11 + 1 ≤ d) (hw8 : (rest.map fun v => v.category).sum ≤ 8) (hw : wX0_mark x sh V R c1 n1 a2 a3 a4 Q) (hcc : c1 + c ≤ cq ∧ n1 + n ≤ nq) (kk : ∀ r sh' V' R', Q r sh' V' R' → J G l M d c n (pc + 3) lv (.int r :: rest) (mk sh' V' R') post xp) : J G l M d cq nq pc lv (.ref a4 :: .int a3 :: .int a2 :: .ref x :: rest) (mk sh V R) post xp := by
  exact J.callSX (As := [.ref x, .int a2, .int a3, .ref a4]) (hcw := by rw [hM]; exact lw_SW q1817 q1818 q143 q1819) (mX0_mark htr (Nat.le_refl _) hT hw) hd rfl ⟨by decide, by decide, by show _ = some 4; decide +kernel⟩ hw8 ⟨hdd, by decide⟩ hcc (fun r9 g9 h9 => by obtain ⟨s9, V9, R9, rfl, r, rfl, h⟩ := h9; exact kk r s9 V9 R9 h) jNo.x
theorem uL_204 {G : jG} {l : Launch} {M : jM} {d c n pc : Nat} {lv : List (Nat × Value)} {rest : List Value} {post : Option Value → List jC → Prop} {xp : String → List jC → Prop} (hM : M.1.cls = RL) (htr : l.stackTraces = false) {sh : List jH} {V : Nat → Nat → Int32} {R : Nat → Nat → Option Nat} {t : Nat} (hT : jReg shX6 sh t) {a1 : Int32} {a2 : Int32} {Q : Int32 → (Nat → Nat → Int32) → Prop} (hd : decode M.2.1 pc = .ok (.invokevirtual 204, 3)) (hdd : 2 + 1 ≤ d) (hw8 : (rest.map fun v => v.category).sum ≤ 8) (hw : wX6_mark t V a1 a2 Q) (kk : ∀ r V', Q r V' → J G l M d c n (pc + 3) lv (.int r :: rest) (mk sh V' R) post xp) : J G l M d c n pc lv (.int a2 :: .int a1 :: .ref t :: rest) (mk sh V R) post xp := by
  exact J.callV (As := [.int a1, .int a2]) (hcw := by rw [hM]; exact lw_V q2513 q2514 q2515 q152 q2516) (mX6_mark htr hT hw) hd rfl ⟨5, _, _, mk_at (hT.at 0 rfl), rfl, rfl, fun _ => rfl⟩ ⟨rfl, by decide, by decide, by show _ = some 2; decide +kernel⟩ hw8 ⟨hdd, by decide⟩ jcc0 (fun r9 g9 h9 => by obtain ⟨V9, rfl, r, rfl, h⟩ := h9; exact kk r V9 h) jNo.x
theorem uL_205 {G : jG} {l : Launch} {M : jM} {d c n pc : Nat} {lv : List (Nat × Value)} {rest : List Value} {post : Option Value → List jC → Prop} {xp : String → List jC → Prop} (hM : M.1.cls = RL) (htr : l.stackTraces = false) {sh : List jH} {V : Nat → Nat → Int32} {R : Nat → Nat → Option Nat} {x : Nat} (hT : jReg shX1 sh x) {a2 : Int32} {a3 : Int32} {a4 : Nat} {c1 n1 cq nq : Nat} {Q : Int32 → List jH → (Nat → Nat → Int32) → (Nat → Nat → Option Nat) → Prop} (hd : decode M.2.1 pc = .ok (.invokestatic 205, 3)) (hdd : 10 + 1 ≤ d) (hw8 : (rest.map fun v => v.category).sum ≤ 8) (hw : wX0_gate x sh V R c1 n1 a2 a3 a4 Q) (hcc : c1 + c ≤ cq ∧ n1 + n ≤ nq) (kk : ∀ r sh' V' R', Q r sh' V' R' → J G l M d c n (pc + 3) lv (.int r :: rest) (mk sh' V' R') post xp) : J G l M d cq nq pc lv (.ref a4 :: .int a3 :: .int a2 :: .ref x :: rest) (mk sh V R) post xp := by
  exact J.callSX (As := [.ref x, .int a2, .int a3, .ref a4]) (hcw := by rw [hM]; exact lw_SW q1824 q1825 q143 q1826) (mX0_gate htr (Nat.le_refl _) hT hw) hd rfl ⟨by decide, by decide, by show _ = some 4; decide +kernel⟩ hw8 ⟨hdd, by decide⟩ hcc (fun r9 g9 h9 => by obtain ⟨s9, V9, R9, rfl, r, rfl, h⟩ := h9; exact kk r s9 V9 R9 h) jNo.x
theorem uL_207 {G : jG} {l : Launch} {M : jM} {d c n pc : Nat} {lv : List (Nat × Value)} {rest : List Value} {post : Option Value → List jC → Prop} {xp : String → List jC → Prop} (hM : M.1.cls = RL) (htr : l.stackTraces = false) {sh : List jH} {V : Nat → Nat → Int32} {R : Nat → Nat → Option Nat} {t : Nat} (hT : jReg shX6 sh t) {a1 : Int32} {a2 : Int32} {Q : Int32 → (Nat → Nat → Int32) → Prop} (hd : decode M.2.1 pc = .ok (.invokevirtual 207, 3)) (hdd : 2 + 1 ≤ d) (hw8 : (rest.map fun v => v.category).sum ≤ 8) (hw : wX6_gate t V a1 a2 Q) (kk : ∀ r V', Q r V' → J G l M d c n (pc + 3) lv (.int r :: rest) (mk sh V' R) post xp) : J G l M d c n pc lv (.int a2 :: .int a1 :: .ref t :: rest) (mk sh V R) post xp := by
  exact J.callV (As := [.int a1, .int a2]) (hcw := by rw [hM]; exact lw_V q2517 q2518 q2519 q152 q2520) (mX6_gate htr hT hw) hd rfl ⟨5, _, _, mk_at (hT.at 0 rfl), rfl, rfl, fun _ => rfl⟩ ⟨rfl, by decide, by decide, by show _ = some 2; decide +kernel⟩ hw8 ⟨hdd, by decide⟩ jcc0 (fun r9 g9 h9 => by obtain ⟨V9, rfl, r, rfl, h⟩ := h9; exact kk r V9 h) jNo.x
theorem uL_208 {G : jG} {l : Launch} {M : jM} {d c n pc : Nat} {lv : List (Nat × Value)} {rest : List Value} {post : Option Value → List jC → Prop} {xp : String → List jC → Prop} (hM : M.1.cls = RL) (htr : l.stackTraces = false) {sh : List jH} {V : Nat → Nat → Int32} {R : Nat → Nat → Option Nat} {x : Nat} (hT : jReg shX1 sh x) {a2 : Int32} {a3 : Int32} {a4 : Int32} {a5 : Int32} {a6 : Nat} {c1 n1 cq nq : Nat} {Q : Int32 → List jH → (Nat → Nat → Int32) → (Nat → Nat → Option Nat) → Prop} (hd : decode M.2.1 pc = .ok (.invokestatic 208, 3)) (hdd : 11 + 1 ≤ d) (hw8 : (rest.map fun v => v.category).sum ≤ 8) (hw : wX0_value x sh V R c1 n1 a2 a3 a4 a5 a6 Q) (hcc : c1 + c ≤ cq ∧ n1 + n ≤ nq) (kk : ∀ r sh' V' R', Q r sh' V' R' → J G l M d c n (pc + 3) lv (.int r :: rest) (mk sh' V' R') post xp) : J G l M d cq nq pc lv (.ref a6 :: .int a5 :: .int a4 :: .int a3 :: .int a2 :: .ref x :: rest) (mk sh V R) post xp := by
  exact J.callSX (As := [.ref x, .int a2, .int a3, .int a4, .int a5, .ref a6]) (hcw := by rw [hM]; exact lw_SW q1831 q1832 q143 q1833) (mX0_value htr (Nat.le_refl _) hT hw) hd rfl ⟨by decide, by decide, by show _ = some 6; decide +kernel⟩ hw8 ⟨hdd, by decide⟩ hcc (fun r9 g9 h9 => by obtain ⟨s9, V9, R9, rfl, r, rfl, h⟩ := h9; exact kk r s9 V9 R9 h) jNo.x
theorem uL_211 {G : jG} {l : Launch} {M : jM} {d c n pc : Nat} {lv : List (Nat × Value)} {rest : List Value} {post : Option Value → List jC → Prop} {xp : String → List jC → Prop} (hM : M.1.cls = RL) (htr : l.stackTraces = false) {sh : List jH} {V : Nat → Nat → Int32} {R : Nat → Nat → Option Nat} {t : Nat} (hT : jReg shX6 sh t) {a1 : Int32} {a2 : Int32} {a3 : Int32} {a4 : Int32} {Q : Int32 → (Nat → Nat → Int32) → Prop} (hd : decode M.2.1 pc = .ok (.invokevirtual 211, 3)) (hdd : 2 + 1 ≤ d) (hw8 : (rest.map fun v => v.category).sum ≤ 8) (hw : wX6_value t V a1 a2 a3 a4 Q) (kk : ∀ r V', Q r V' → J G l M d c n (pc + 3) lv (.int r :: rest) (mk sh V' R) post xp) : J G l M d c n pc lv (.int a4 :: .int a3 :: .int a2 :: .int a1 :: .ref t :: rest) (mk sh V R) post xp := by
  exact J.callV (As := [.int a1, .int a2, .int a3, .int a4]) (hcw := by rw [hM]; exact lw_V q2521 q2522 q2523 q152 q2524) (mX6_value htr hT hw) hd rfl ⟨5, _, _, mk_at (hT.at 0 rfl), rfl, rfl, fun _ => rfl⟩ ⟨rfl, by decide, by decide, by show _ = some 4; decide +kernel⟩ hw8 ⟨hdd, by decide⟩ jcc0 (fun r9 g9 h9 => by obtain ⟨V9, rfl, r, rfl, h⟩ := h9; exact kk r V9 h) jNo.x
theorem uL_212 {G : jG} {l : Launch} {M : jM} {d c n pc : Nat} {lv : List (Nat × Value)} {rest : List Value} {post : Option Value → List jC → Prop} {xp : String → List jC → Prop} (hM : M.1.cls = RL) (htr : l.stackTraces = false) {sh : List jH} {V : Nat → Nat → Int32} {R : Nat → Nat → Option Nat} {x : Nat} (hT : jReg shX1 sh x) {a2 : Int32} {a3 : Nat} {c1 n1 cq nq : Nat} {Q : Int32 → List jH → (Nat → Nat → Int32) → (Nat → Nat → Option Nat) → Prop} (hd : decode M.2.1 pc = .ok (.invokestatic 212, 3)) (hdd : 46 + 1 ≤ d) (hw8 : (rest.map fun v => v.category).sum ≤ 8) (hw : wX0_weeks x sh V R c1 n1 a2 a3 Q) (hcc : c1 + c ≤ cq ∧ n1 + n ≤ nq) (kk : ∀ r sh' V' R', Q r sh' V' R' → J G l M d c n (pc + 3) lv (.int r :: rest) (mk sh' V' R') post xp) : J G l M d cq nq pc lv (.ref a3 :: .int a2 :: .ref x :: rest) (mk sh V R) post xp := by
  exact J.callSX (As := [.ref x, .int a2, .ref a3]) (hcw := by rw [hM]; exact lw_SW q1838 q1839 q143 q1840) (mX0_weeks htr (Nat.le_refl _) hT hw) hd rfl ⟨by decide, by decide, by show _ = some 3; decide +kernel⟩ hw8 ⟨hdd, by decide⟩ hcc (fun r9 g9 h9 => by obtain ⟨s9, V9, R9, rfl, r, rfl, h⟩ := h9; exact kk r s9 V9 R9 h) jNo.x
theorem uL_215 {G : jG} {l : Launch} {M : jM} {d c n pc : Nat} {lv : List (Nat × Value)} {rest : List Value} {post : Option Value → List jC → Prop} {xp : String → List jC → Prop} (hM : M.1.cls = RL) (htr : l.stackTraces = false) {sh : List jH} {V : Nat → Nat → Int32} {R : Nat → Nat → Option Nat} {t : Nat} (hT : jReg shX6 sh t) {a1 : Int32} {Q : Int32 → (Nat → Nat → Int32) → Prop} (hd : decode M.2.1 pc = .ok (.invokevirtual 215, 3)) (hdd : 74 + 1 ≤ d) (hw8 : (rest.map fun v => v.category).sum ≤ 8) (hw : wX6_weeks t sh R V a1 Q) (kk : ∀ r V', Q r V' → J G l M d c n (pc + 3) lv (.int r :: rest) (mk sh V' R) post xp) : J G l M d c n pc lv (.int a1 :: .ref t :: rest) (mk sh V R) post xp := by
  exact J.callV (As := [.int a1]) (hcw := by rw [hM]; exact lw_V q2525 q2526 q2527 q152 q2528) (mX6_weeks htr (Nat.le_refl _) hT hw) hd rfl ⟨5, _, _, mk_at (hT.at 0 rfl), rfl, rfl, fun _ => rfl⟩ ⟨rfl, by decide, by decide, by show _ = some 1; decide +kernel⟩ hw8 ⟨hdd, by decide⟩ jcc0 (fun r9 g9 h9 => by obtain ⟨V9, rfl, r, rfl, h⟩ := h9; exact kk r V9 h) jNo.x
theorem uL_216 {G : jG} {l : Launch} {M : jM} {d c n pc : Nat} {lv : List (Nat × Value)} {rest : List Value} {post : Option Value → List jC → Prop} {xp : String → List jC → Prop} (hM : M.1.cls = RL) (htr : l.stackTraces = false) {sh : List jH} {V : Nat → Nat → Int32} {R : Nat → Nat → Option Nat} {x : Nat} (hT : jReg shX1 sh x) {a1 : Int32} {Q : Int32 → (Nat → Nat → Int32) → Prop} (hd : decode M.2.1 pc = .ok (.invokevirtual 216, 3)) (hdd : 43 + 1 ≤ d) (hw8 : (rest.map fun v => v.category).sum ≤ 8) (hw : wX1_meetings x sh R V a1 Q) (kk : ∀ r V', Q r V' → J G l M d c n (pc + 3) lv (.int r :: rest) (mk sh V' R) post xp) : J G l M d c n pc lv (.int a1 :: .ref x :: rest) (mk sh V R) post xp := by
  exact J.callV (As := [.int a1]) (hcw := by rw [hM]; exact lw_V q502 q503 q504 q144 q505) (mX1_meetings htr (Nat.le_refl _) hT hw) hd rfl ⟨0, _, _, mk_at (hT.at 0 rfl), rfl, rfl, fun _ => rfl⟩ ⟨rfl, by decide, by decide, by show _ = some 1; decide +kernel⟩ hw8 ⟨hdd, by decide⟩ jcc0 (fun r9 g9 h9 => by obtain ⟨V9, rfl, r, rfl, h⟩ := h9; exact kk r V9 h) jNo.x
theorem uL_219 {G : jG} {l : Launch} {M : jM} {d c n pc : Nat} {lv : List (Nat × Value)} {rest : List Value} {post : Option Value → List jC → Prop} {xp : String → List jC → Prop} (hM : M.1.cls = RL) (htr : l.stackTraces = false) {sh : List jH} {V : Nat → Nat → Int32} {R : Nat → Nat → Option Nat} {t : Nat} (hT : jReg shX6 sh t) {a1 : Int32} {Q : Int32 → (Nat → Nat → Int32) → Prop} (hd : decode M.2.1 pc = .ok (.invokevirtual 219, 3)) (hdd : 72 + 1 ≤ d) (hw8 : (rest.map fun v => v.category).sum ≤ 8) (hw : wX6_meetings t sh R V a1 Q) (kk : ∀ r V', Q r V' → J G l M d c n (pc + 3) lv (.int r :: rest) (mk sh V' R) post xp) : J G l M d c n pc lv (.int a1 :: .ref t :: rest) (mk sh V R) post xp := by
  exact J.callV (As := [.int a1]) (hcw := by rw [hM]; exact lw_V q2557 q2558 q2559 q152 q2560) (mX6_meetings htr (Nat.le_refl _) hT hw) hd rfl ⟨5, _, _, mk_at (hT.at 0 rfl), rfl, rfl, fun _ => rfl⟩ ⟨rfl, by decide, by decide, by show _ = some 1; decide +kernel⟩ hw8 ⟨hdd, by decide⟩ jcc0 (fun r9 g9 h9 => by obtain ⟨V9, rfl, r, rfl, h⟩ := h9; exact kk r V9 h) jNo.x
theorem uL_220 {G : jG} {l : Launch} {M : jM} {d c n pc : Nat} {lv : List (Nat × Value)} {rest : List Value} {post : Option Value → List jC → Prop} {xp : String → List jC → Prop} (hM : M.1.cls = RL) (htr : l.stackTraces = false) {sh : List jH} {V : Nat → Nat → Int32} {R : Nat → Nat → Option Nat} {x : Nat} (hT : jReg shX1 sh x) {Q : Int32 → Prop} (hd : decode M.2.1 pc = .ok (.invokevirtual 220, 3)) (hdd : 1 + 1 ≤ d) (hw8 : (rest.map fun v => v.category).sum ≤ 8) (hw : wX1_twice x V Q) (kk : ∀ r, Q r → J G l M d c n (pc + 3) lv (.int r :: rest) (mk sh V R) post xp) : J G l M d c n pc lv (.ref x :: rest) (mk sh V R) post xp := by
  exact J.callV (As := []) (hcw := by rw [hM]; exact lw_V q631 q632 q633 q144 q634) (mX1_twice htr hT hw) hd rfl ⟨0, _, _, mk_at (hT.at 0 rfl), rfl, rfl, fun _ => rfl⟩ ⟨rfl, by decide, by decide, by show _ = some 0; decide +kernel⟩ hw8 ⟨hdd, by decide⟩ jcc0 (fun r9 g9 h9 => by obtain ⟨rfl, r, rfl, h⟩ := h9; exact kk r h) jNo.x
theorem uL_223 {G : jG} {l : Launch} {M : jM} {d c n pc : Nat} {lv : List (Nat × Value)} {rest : List Value} {post : Option Value → List jC → Prop} {xp : String → List jC → Prop} (hM : M.1.cls = RL) (htr : l.stackTraces = false) {sh : List jH} {V : Nat → Nat → Int32} {R : Nat → Nat → Option Nat} {t : Nat} (hT : jReg shX6 sh t) {Q : Int32 → (Nat → Nat → Int32) → Prop} (hd : decode M.2.1 pc = .ok (.invokevirtual 223, 3)) (hdd : 2 + 1 ≤ d) (hw8 : (rest.map fun v => v.category).sum ≤ 8) (hw : wX6_twice t V Q) (kk : ∀ r V', Q r V' → J G l M d c n (pc + 3) lv (.int r :: rest) (mk sh V' R) post xp) : J G l M d c n pc lv (.ref t :: rest) (mk sh V R) post xp := by
  exact J.callV (As := []) (hcw := by rw [hM]; exact lw_V q2561 q2562 q2563 q152 q2564) (mX6_twice htr hT hw) hd rfl ⟨5, _, _, mk_at (hT.at 0 rfl), rfl, rfl, fun _ => rfl⟩ ⟨rfl, by decide, by decide, by show _ = some 0; decide +kernel⟩ hw8 ⟨hdd, by decide⟩ jcc0 (fun r9 g9 h9 => by obtain ⟨V9, rfl, r, rfl, h⟩ := h9; exact kk r V9 h) jNo.x
theorem uL_224 {G : jG} {l : Launch} {M : jM} {d c n pc : Nat} {lv : List (Nat × Value)} {rest : List Value} {post : Option Value → List jC → Prop} {xp : String → List jC → Prop} (hM : M.1.cls = RL) (htr : l.stackTraces = false) {sh : List jH} {V : Nat → Nat → Int32} {R : Nat → Nat → Option Nat} {x : Nat} (hT : jReg shX1 sh x) {Q : Int32 → (Nat → Nat → Int32) → Prop} (hd : decode M.2.1 pc = .ok (.invokevirtual 224, 3)) (hdd : 43 + 1 ≤ d) (hw8 : (rest.map fun v => v.category).sum ≤ 8) (hw : wX1_taboo x sh R V Q) (kk : ∀ r V', Q r V' → J G l M d c n (pc + 3) lv (.int r :: rest) (mk sh V' R) post xp) : J G l M d c n pc lv (.ref x :: rest) (mk sh V R) post xp := by
  exact J.callV (As := []) (hcw := by rw [hM]; exact lw_V q640 q641 q642 q144 q643) (mX1_taboo htr (Nat.le_refl _) hT hw) hd rfl ⟨0, _, _, mk_at (hT.at 0 rfl), rfl, rfl, fun _ => rfl⟩ ⟨rfl, by decide, by decide, by show _ = some 0; decide +kernel⟩ hw8 ⟨hdd, by decide⟩ jcc0 (fun r9 g9 h9 => by obtain ⟨V9, rfl, r, rfl, h⟩ := h9; exact kk r V9 h) jNo.x
theorem uL_227 {G : jG} {l : Launch} {M : jM} {d c n pc : Nat} {lv : List (Nat × Value)} {rest : List Value} {post : Option Value → List jC → Prop} {xp : String → List jC → Prop} (hM : M.1.cls = RL) (htr : l.stackTraces = false) {sh : List jH} {V : Nat → Nat → Int32} {R : Nat → Nat → Option Nat} {t : Nat} (hT : jReg shX6 sh t) {Q : Int32 → (Nat → Nat → Int32) → Prop} (hd : decode M.2.1 pc = .ok (.invokevirtual 227, 3)) (hdd : 72 + 1 ≤ d) (hw8 : (rest.map fun v => v.category).sum ≤ 8) (hw : wX6_taboo t sh R V Q) (kk : ∀ r V', Q r V' → J G l M d c n (pc + 3) lv (.int r :: rest) (mk sh V' R) post xp) : J G l M d c n pc lv (.ref t :: rest) (mk sh V R) post xp := by
  exact J.callV (As := []) (hcw := by rw [hM]; exact lw_V q2565 q2566 q2567 q152 q2568) (mX6_taboo htr (Nat.le_refl _) hT hw) hd rfl ⟨5, _, _, mk_at (hT.at 0 rfl), rfl, rfl, fun _ => rfl⟩ ⟨rfl, by decide, by decide, by show _ = some 0; decide +kernel⟩ hw8 ⟨hdd, by decide⟩ jcc0 (fun r9 g9 h9 => by obtain ⟨V9, rfl, r, rfl, h⟩ := h9; exact kk r V9 h) jNo.x
theorem uL_228 {G : jG} {l : Launch} {M : jM} {d c n pc : Nat} {lv : List (Nat × Value)} {rest : List Value} {post : Option Value → List jC → Prop} {xp : String → List jC → Prop} (hM : M.1.cls = RL) (htr : l.stackTraces = false) {sh : List jH} {V : Nat → Nat → Int32} {R : Nat → Nat → Option Nat} {x : Nat} (hT : jReg shX1 sh x) {a2 : Int32} {a3 : Nat} {c1 n1 cq nq : Nat} {Q : Int32 → List jH → (Nat → Nat → Int32) → (Nat → Nat → Option Nat) → Prop} (hd : decode M.2.1 pc = .ok (.invokestatic 228, 3)) (hdd : 11 + 1 ≤ d) (hw8 : (rest.map fun v => v.category).sum ≤ 8) (hw : wX0_hostBest x sh V R c1 n1 a2 a3 Q) (hcc : c1 + c ≤ cq ∧ n1 + n ≤ nq) (kk : ∀ r sh' V' R', Q r sh' V' R' → J G l M d c n (pc + 3) lv (.int r :: rest) (mk sh' V' R') post xp) : J G l M d cq nq pc lv (.ref a3 :: .int a2 :: .ref x :: rest) (mk sh V R) post xp := by
  exact J.callSX (As := [.ref x, .int a2, .ref a3]) (hcw := by rw [hM]; exact lw_SW q1874 q1875 q143 q1876) (mX0_hostBest htr (Nat.le_refl _) hT hw) hd rfl ⟨by decide, by decide, by show _ = some 3; decide +kernel⟩ hw8 ⟨hdd, by decide⟩ hcc (fun r9 g9 h9 => by obtain ⟨s9, V9, R9, rfl, r, rfl, h⟩ := h9; exact kk r s9 V9 R9 h) jNo.x
theorem uL_230 {G : jG} {l : Launch} {M : jM} {d c n pc : Nat} {lv : List (Nat × Value)} {rest : List Value} {post : Option Value → List jC → Prop} {xp : String → List jC → Prop} (hM : M.1.cls = RL) (htr : l.stackTraces = false) {sh : List jH} {V : Nat → Nat → Int32} {R : Nat → Nat → Option Nat} {t : Nat} (hT : jReg shX6 sh t) {a1 : Int32} {Q : Int32 → (Nat → Nat → Int32) → Prop} (hd : decode M.2.1 pc = .ok (.invokevirtual 230, 3)) (hdd : 4 + 1 ≤ d) (hw8 : (rest.map fun v => v.category).sum ≤ 8) (hw : wX6_hostBest t V a1 Q) (kk : ∀ r V', Q r V' → J G l M d c n (pc + 3) lv (.int r :: rest) (mk sh V' R) post xp) : J G l M d c n pc lv (.int a1 :: .ref t :: rest) (mk sh V R) post xp := by
  exact J.callV (As := [.int a1]) (hcw := by rw [hM]; exact lw_V q2569 q2570 q2571 q152 q2572) (mX6_hostBest htr hT hw) hd rfl ⟨5, _, _, mk_at (hT.at 0 rfl), rfl, rfl, fun _ => rfl⟩ ⟨rfl, by decide, by decide, by show _ = some 1; decide +kernel⟩ hw8 ⟨hdd, by decide⟩ jcc0 (fun r9 g9 h9 => by obtain ⟨V9, rfl, r, rfl, h⟩ := h9; exact kk r V9 h) jNo.x
theorem uL_231 {G : jG} {l : Launch} {M : jM} {d c n pc : Nat} {lv : List (Nat × Value)} {rest : List Value} {post : Option Value → List jC → Prop} {xp : String → List jC → Prop} (hM : M.1.cls = RL) (htr : l.stackTraces = false) {sh : List jH} {V : Nat → Nat → Int32} {R : Nat → Nat → Option Nat} {x : Nat} (hT : jReg shX1 sh x) {a2 : Int32} {a3 : Nat} {c1 n1 cq nq : Nat} {Q : Int32 → List jH → (Nat → Nat → Int32) → (Nat → Nat → Option Nat) → Prop} (hd : decode M.2.1 pc = .ok (.invokestatic 231, 3)) (hdd : 11 + 1 ≤ d) (hw8 : (rest.map fun v => v.category).sum ≤ 8) (hw : wX0_guestBest x sh V R c1 n1 a2 a3 Q) (hcc : c1 + c ≤ cq ∧ n1 + n ≤ nq) (kk : ∀ r sh' V' R', Q r sh' V' R' → J G l M d c n (pc + 3) lv (.int r :: rest) (mk sh' V' R') post xp) : J G l M d cq nq pc lv (.ref a3 :: .int a2 :: .ref x :: rest) (mk sh V R) post xp := by
  exact J.callSX (As := [.ref x, .int a2, .ref a3]) (hcw := by rw [hM]; exact lw_SW q1882 q1883 q143 q1884) (mX0_guestBest htr (Nat.le_refl _) hT hw) hd rfl ⟨by decide, by decide, by show _ = some 3; decide +kernel⟩ hw8 ⟨hdd, by decide⟩ hcc (fun r9 g9 h9 => by obtain ⟨s9, V9, R9, rfl, r, rfl, h⟩ := h9; exact kk r s9 V9 R9 h) jNo.x
theorem uL_233 {G : jG} {l : Launch} {M : jM} {d c n pc : Nat} {lv : List (Nat × Value)} {rest : List Value} {post : Option Value → List jC → Prop} {xp : String → List jC → Prop} (hM : M.1.cls = RL) (htr : l.stackTraces = false) {sh : List jH} {V : Nat → Nat → Int32} {R : Nat → Nat → Option Nat} {t : Nat} (hT : jReg shX6 sh t) {a1 : Int32} {Q : Int32 → (Nat → Nat → Int32) → Prop} (hd : decode M.2.1 pc = .ok (.invokevirtual 233, 3)) (hdd : 4 + 1 ≤ d) (hw8 : (rest.map fun v => v.category).sum ≤ 8) (hw : wX6_guestBest t V a1 Q) (kk : ∀ r V', Q r V' → J G l M d c n (pc + 3) lv (.int r :: rest) (mk sh V' R) post xp) : J G l M d c n pc lv (.int a1 :: .ref t :: rest) (mk sh V R) post xp := by
  exact J.callV (As := [.int a1]) (hcw := by rw [hM]; exact lw_V q2593 q2594 q2595 q152 q2596) (mX6_guestBest htr hT hw) hd rfl ⟨5, _, _, mk_at (hT.at 0 rfl), rfl, rfl, fun _ => rfl⟩ ⟨rfl, by decide, by decide, by show _ = some 1; decide +kernel⟩ hw8 ⟨hdd, by decide⟩ jcc0 (fun r9 g9 h9 => by obtain ⟨V9, rfl, r, rfl, h⟩ := h9; exact kk r V9 h) jNo.x
theorem uL_234 {G : jG} {l : Launch} {M : jM} {d c n pc : Nat} {lv : List (Nat × Value)} {rest : List Value} {post : Option Value → List jC → Prop} {xp : String → List jC → Prop} (hM : M.1.cls = RL) (htr : l.stackTraces = false) {sh : List jH} {V : Nat → Nat → Int32} {R : Nat → Nat → Option Nat} {x : Nat} (hT : jReg shX1 sh x) {Q : Int32 → (Nat → Nat → Int32) → Prop} (hd : decode M.2.1 pc = .ok (.invokevirtual 234, 3)) (hdd : 17 + 1 ≤ d) (hw8 : (rest.map fun v => v.category).sum ≤ 8) (hw : wX1_ways x V Q) (kk : ∀ r V', Q r V' → J G l M d c n (pc + 3) lv (.int r :: rest) (mk sh V' R) post xp) : J G l M d c n pc lv (.ref x :: rest) (mk sh V R) post xp := by
  exact J.callV (As := []) (hcw := by rw [hM]; exact lw_V q644 q645 q646 q144 q647) (mX1_ways htr hT hw) hd rfl ⟨0, _, _, mk_at (hT.at 0 rfl), rfl, rfl, fun _ => rfl⟩ ⟨rfl, by decide, by decide, by show _ = some 0; decide +kernel⟩ hw8 ⟨hdd, by decide⟩ jcc0 (fun r9 g9 h9 => by obtain ⟨V9, rfl, r, rfl, h⟩ := h9; exact kk r V9 h) jNo.x
theorem uL_237 {G : jG} {l : Launch} {M : jM} {d c n pc : Nat} {lv : List (Nat × Value)} {rest : List Value} {post : Option Value → List jC → Prop} {xp : String → List jC → Prop} (hM : M.1.cls = RL) (htr : l.stackTraces = false) {sh : List jH} {V : Nat → Nat → Int32} {R : Nat → Nat → Option Nat} {t : Nat} (hT : jReg shX6 sh t) {Q : Int32 → (Nat → Nat → Int32) → Prop} (hd : decode M.2.1 pc = .ok (.invokevirtual 237, 3)) (hdd : 4 + 1 ≤ d) (hw8 : (rest.map fun v => v.category).sum ≤ 8) (hw : wX6_ways t V Q) (kk : ∀ r V', Q r V' → J G l M d c n (pc + 3) lv (.int r :: rest) (mk sh V' R) post xp) : J G l M d c n pc lv (.ref t :: rest) (mk sh V R) post xp := by
  exact J.callV (As := []) (hcw := by rw [hM]; exact lw_V q2597 q2598 q2599 q152 q2600) (mX6_ways htr hT hw) hd rfl ⟨5, _, _, mk_at (hT.at 0 rfl), rfl, rfl, fun _ => rfl⟩ ⟨rfl, by decide, by decide, by show _ = some 0; decide +kernel⟩ hw8 ⟨hdd, by decide⟩ jcc0 (fun r9 g9 h9 => by obtain ⟨V9, rfl, r, rfl, h⟩ := h9; exact kk r V9 h) jNo.x
theorem uL_238 {G : jG} {l : Launch} {M : jM} {d c n pc : Nat} {lv : List (Nat × Value)} {rest : List Value} {post : Option Value → List jC → Prop} {xp : String → List jC → Prop} (hM : M.1.cls = RL) (htr : l.stackTraces = false) {sh : List jH} {V : Nat → Nat → Int32} {R : Nat → Nat → Option Nat} {x : Nat} (hT : jReg shX1 sh x) {a2 : Nat} {c1 n1 cq nq : Nat} {Q : Int32 → List jH → (Nat → Nat → Int32) → (Nat → Nat → Option Nat) → Prop} (hd : decode M.2.1 pc = .ok (.invokestatic 238, 3)) (hdd : 10 + 1 ≤ d) (hw8 : (rest.map fun v => v.category).sum ≤ 8) (hw : wX0_rather x sh V R c1 n1 a2 Q) (hcc : c1 + c ≤ cq ∧ n1 + n ≤ nq) (kk : ∀ r sh' V' R', Q r sh' V' R' → J G l M d c n (pc + 3) lv (.int r :: rest) (mk sh' V' R') post xp) : J G l M d cq nq pc lv (.ref a2 :: .ref x :: rest) (mk sh V R) post xp := by
  exact J.callSX (As := [.ref x, .ref a2]) (hcw := by rw [hM]; exact lw_SW q1890 q1891 q143 q1892) (mX0_rather htr (Nat.le_refl _) hT hw) hd rfl ⟨by decide, by decide, by show _ = some 2; decide +kernel⟩ hw8 ⟨hdd, by decide⟩ hcc (fun r9 g9 h9 => by obtain ⟨s9, V9, R9, rfl, r, rfl, h⟩ := h9; exact kk r s9 V9 R9 h) jNo.x
theorem uL_240 {G : jG} {l : Launch} {M : jM} {d c n pc : Nat} {lv : List (Nat × Value)} {rest : List Value} {post : Option Value → List jC → Prop} {xp : String → List jC → Prop} (hM : M.1.cls = RL) (htr : l.stackTraces = false) {sh : List jH} {V : Nat → Nat → Int32} {R : Nat → Nat → Option Nat} {t : Nat} (hT : jReg shX6 sh t) {Q : Int32 → (Nat → Nat → Int32) → Prop} (hd : decode M.2.1 pc = .ok (.invokevirtual 240, 3)) (hdd : 3 + 1 ≤ d) (hw8 : (rest.map fun v => v.category).sum ≤ 8) (hw : wX6_rather t V Q) (kk : ∀ r V', Q r V' → J G l M d c n (pc + 3) lv (.int r :: rest) (mk sh V' R) post xp) : J G l M d c n pc lv (.ref t :: rest) (mk sh V R) post xp := by
  exact J.callV (As := []) (hcw := by rw [hM]; exact lw_V q2612 q2613 q2614 q152 q2615) (mX6_rather htr hT hw) hd rfl ⟨5, _, _, mk_at (hT.at 0 rfl), rfl, rfl, fun _ => rfl⟩ ⟨rfl, by decide, by decide, by show _ = some 0; decide +kernel⟩ hw8 ⟨hdd, by decide⟩ jcc0 (fun r9 g9 h9 => by obtain ⟨V9, rfl, r, rfl, h⟩ := h9; exact kk r V9 h) jNo.x
theorem uL_241 {G : jG} {l : Launch} {M : jM} {d c n pc : Nat} {lv : List (Nat × Value)} {rest : List Value} {post : Option Value → List jC → Prop} {xp : String → List jC → Prop} (hM : M.1.cls = RL) (htr : l.stackTraces = false) {sh : List jH} {V : Nat → Nat → Int32} {R : Nat → Nat → Option Nat} {x : Nat} (hT : jReg shX1 sh x) {a2 : Int32} {a3 : Int32} {a4 : Int32} {a5 : Nat} {c1 n1 cq nq : Nat} {Q : Int32 → List jH → (Nat → Nat → Int32) → (Nat → Nat → Option Nat) → Prop} (hd : decode M.2.1 pc = .ok (.invokestatic 241, 3)) (hdd : 11 + 1 ≤ d) (hw8 : (rest.map fun v => v.category).sum ≤ 8) (hw : wX0_row x sh V R c1 n1 a2 a3 a4 a5 Q) (hcc : c1 + c ≤ cq ∧ n1 + n ≤ nq) (kk : ∀ r sh' V' R', Q r sh' V' R' → J G l M d c n (pc + 3) lv (.int r :: rest) (mk sh' V' R') post xp) : J G l M d cq nq pc lv (.ref a5 :: .int a4 :: .int a3 :: .int a2 :: .ref x :: rest) (mk sh V R) post xp := by
  exact J.callSX (As := [.ref x, .int a2, .int a3, .int a4, .ref a5]) (hcw := by rw [hM]; exact lw_SW q1904 q1905 q143 q1906) (mX0_row htr (Nat.le_refl _) hT hw) hd rfl ⟨by decide, by decide, by show _ = some 5; decide +kernel⟩ hw8 ⟨hdd, by decide⟩ hcc (fun r9 g9 h9 => by obtain ⟨s9, V9, R9, rfl, r, rfl, h⟩ := h9; exact kk r s9 V9 R9 h) jNo.x
theorem uL_243 {G : jG} {l : Launch} {M : jM} {d c n pc : Nat} {lv : List (Nat × Value)} {rest : List Value} {post : Option Value → List jC → Prop} {xp : String → List jC → Prop} (hM : M.1.cls = RL) (htr : l.stackTraces = false) {sh : List jH} {V : Nat → Nat → Int32} {R : Nat → Nat → Option Nat} {t : Nat} (hT : jReg shX6 sh t) {a1 : Int32} {a2 : Int32} {a3 : Int32} {Q : Int32 → (Nat → Nat → Int32) → Prop} (hd : decode M.2.1 pc = .ok (.invokevirtual 243, 3)) (hdd : 4 + 1 ≤ d) (hw8 : (rest.map fun v => v.category).sum ≤ 8) (hw : wX6_row t V a1 a2 a3 Q) (kk : ∀ r V', Q r V' → J G l M d c n (pc + 3) lv (.int r :: rest) (mk sh V' R) post xp) : J G l M d c n pc lv (.int a3 :: .int a2 :: .int a1 :: .ref t :: rest) (mk sh V R) post xp := by
  exact J.callV (As := [.int a1, .int a2, .int a3]) (hcw := by rw [hM]; exact lw_V q2616 q2617 q2618 q152 q2619) (mX6_row htr hT hw) hd rfl ⟨5, _, _, mk_at (hT.at 0 rfl), rfl, rfl, fun _ => rfl⟩ ⟨rfl, by decide, by decide, by show _ = some 3; decide +kernel⟩ hw8 ⟨hdd, by decide⟩ jcc0 (fun r9 g9 h9 => by obtain ⟨V9, rfl, r, rfl, h⟩ := h9; exact kk r V9 h) jNo.x
theorem uL_244 {G : jG} {l : Launch} {M : jM} {d c n pc : Nat} {lv : List (Nat × Value)} {rest : List Value} {post : Option Value → List jC → Prop} {xp : String → List jC → Prop} (hM : M.1.cls = RL) (htr : l.stackTraces = false) {sh : List jH} {V : Nat → Nat → Int32} {R : Nat → Nat → Option Nat} {x : Nat} (hT : jReg shX1 sh x) {a2 : Int32} {a3 : Int32} {a4 : Nat} {c1 n1 cq nq : Nat} {Q : Int32 → List jH → (Nat → Nat → Int32) → (Nat → Nat → Option Nat) → Prop} (hd : decode M.2.1 pc = .ok (.invokestatic 244, 3)) (hdd : 11 + 1 ≤ d) (hw8 : (rest.map fun v => v.category).sum ≤ 8) (hw : wX0_afternoon x sh V R c1 n1 a2 a3 a4 Q) (hcc : c1 + c ≤ cq ∧ n1 + n ≤ nq) (kk : ∀ r sh' V' R', Q r sh' V' R' → J G l M d c n (pc + 3) lv (.int r :: rest) (mk sh' V' R') post xp) : J G l M d cq nq pc lv (.ref a4 :: .int a3 :: .int a2 :: .ref x :: rest) (mk sh V R) post xp := by
  exact J.callSX (As := [.ref x, .int a2, .int a3, .ref a4]) (hcw := by rw [hM]; exact lw_SW q1924 q1925 q143 q1926) (mX0_afternoon htr (Nat.le_refl _) hT hw) hd rfl ⟨by decide, by decide, by show _ = some 4; decide +kernel⟩ hw8 ⟨hdd, by decide⟩ hcc (fun r9 g9 h9 => by obtain ⟨s9, V9, R9, rfl, r, rfl, h⟩ := h9; exact kk r s9 V9 R9 h) jNo.x
theorem uL_246 {G : jG} {l : Launch} {M : jM} {d c n pc : Nat} {lv : List (Nat × Value)} {rest : List Value} {post : Option Value → List jC → Prop} {xp : String → List jC → Prop} (hM : M.1.cls = RL) (htr : l.stackTraces = false) {sh : List jH} {V : Nat → Nat → Int32} {R : Nat → Nat → Option Nat} {t : Nat} (hT : jReg shX6 sh t) {a1 : Int32} {a2 : Int32} {Q : Int32 → (Nat → Nat → Int32) → Prop} (hd : decode M.2.1 pc = .ok (.invokevirtual 246, 3)) (hdd : 5 + 1 ≤ d) (hw8 : (rest.map fun v => v.category).sum ≤ 8) (hw : wX6_afternoon t V a1 a2 Q) (kk : ∀ r V', Q r V' → J G l M d c n (pc + 3) lv (.int r :: rest) (mk sh V' R) post xp) : J G l M d c n pc lv (.int a2 :: .int a1 :: .ref t :: rest) (mk sh V R) post xp := by
  exact J.callV (As := [.int a1, .int a2]) (hcw := by rw [hM]; exact lw_V q2628 q2629 q2630 q152 q2631) (mX6_afternoon htr hT hw) hd rfl ⟨5, _, _, mk_at (hT.at 0 rfl), rfl, rfl, fun _ => rfl⟩ ⟨rfl, by decide, by decide, by show _ = some 2; decide +kernel⟩ hw8 ⟨hdd, by decide⟩ jcc0 (fun r9 g9 h9 => by obtain ⟨V9, rfl, r, rfl, h⟩ := h9; exact kk r V9 h) jNo.x
theorem uL_247 {G : jG} {l : Launch} {M : jM} {d c n pc : Nat} {lv : List (Nat × Value)} {rest : List Value} {post : Option Value → List jC → Prop} {xp : String → List jC → Prop} (hM : M.1.cls = RL) (htr : l.stackTraces = false) {sh : List jH} {V : Nat → Nat → Int32} {R : Nat → Nat → Option Nat} {x : Nat} (hT : jReg shX1 sh x) {a2 : Int32} {a3 : Nat} {c1 n1 cq nq : Nat} {Q : Int32 → List jH → (Nat → Nat → Int32) → (Nat → Nat → Option Nat) → Prop} (hd : decode M.2.1 pc = .ok (.invokestatic 247, 3)) (hdd : 11 + 1 ≤ d) (hw8 : (rest.map fun v => v.category).sum ≤ 8) (hw : wX0_rules x sh V R c1 n1 a2 a3 Q) (hcc : c1 + c ≤ cq ∧ n1 + n ≤ nq) (kk : ∀ r sh' V' R', Q r sh' V' R' → J G l M d c n (pc + 3) lv (.int r :: rest) (mk sh' V' R') post xp) : J G l M d cq nq pc lv (.ref a3 :: .int a2 :: .ref x :: rest) (mk sh V R) post xp := by
  exact J.callSX (As := [.ref x, .int a2, .ref a3]) (hcw := by rw [hM]; exact lw_SW q1943 q1944 q143 q1945) (mX0_rules htr (Nat.le_refl _) hT hw) hd rfl ⟨by decide, by decide, by show _ = some 3; decide +kernel⟩ hw8 ⟨hdd, by decide⟩ hcc (fun r9 g9 h9 => by obtain ⟨s9, V9, R9, rfl, r, rfl, h⟩ := h9; exact kk r s9 V9 R9 h) jNo.x
theorem uL_250 {G : jG} {l : Launch} {M : jM} {d c n pc : Nat} {lv : List (Nat × Value)} {rest : List Value} {post : Option Value → List jC → Prop} {xp : String → List jC → Prop} (hM : M.1.cls = RL) (htr : l.stackTraces = false) {sh : List jH} {V : Nat → Nat → Int32} {R : Nat → Nat → Option Nat} {t : Nat} (hT : jReg shX6 sh t) {a1 : Int32} {Q : Int32 → (Nat → Nat → Int32) → Prop} (hd : decode M.2.1 pc = .ok (.invokevirtual 250, 3)) (hdd : 2 + 1 ≤ d) (hw8 : (rest.map fun v => v.category).sum ≤ 8) (hw : wX6_rules t V a1 Q) (kk : ∀ r V', Q r V' → J G l M d c n (pc + 3) lv (.int r :: rest) (mk sh V' R) post xp) : J G l M d c n pc lv (.int a1 :: .ref t :: rest) (mk sh V R) post xp := by
  exact J.callV (As := [.int a1]) (hcw := by rw [hM]; exact lw_V q2648 q2649 q2650 q152 q2651) (mX6_rules htr hT hw) hd rfl ⟨5, _, _, mk_at (hT.at 0 rfl), rfl, rfl, fun _ => rfl⟩ ⟨rfl, by decide, by decide, by show _ = some 1; decide +kernel⟩ hw8 ⟨hdd, by decide⟩ jcc0 (fun r9 g9 h9 => by obtain ⟨V9, rfl, r, rfl, h⟩ := h9; exact kk r V9 h) jNo.x
theorem uL_251 {G : jG} {l : Launch} {M : jM} {d c n pc : Nat} {lv : List (Nat × Value)} {rest : List Value} {post : Option Value → List jC → Prop} {xp : String → List jC → Prop} (hM : M.1.cls = RL) (htr : l.stackTraces = false) {sh : List jH} {V : Nat → Nat → Int32} {R : Nat → Nat → Option Nat} {x : Nat} (hT : jReg shX1 sh x) {a2 : Nat} {c1 n1 cq nq : Nat} {Q : Int32 → List jH → (Nat → Nat → Int32) → (Nat → Nat → Option Nat) → Prop} (hd : decode M.2.1 pc = .ok (.invokestatic 251, 3)) (hdd : 11 + 1 ≤ d) (hw8 : (rest.map fun v => v.category).sum ≤ 8) (hw : wX0_send x sh V R c1 n1 a2 Q) (hcc : c1 + c ≤ cq ∧ n1 + n ≤ nq) (kk : ∀ r sh' V' R', Q r sh' V' R' → J G l M d c n (pc + 3) lv (.int r :: rest) (mk sh' V' R') post xp) : J G l M d cq nq pc lv (.ref a2 :: .ref x :: rest) (mk sh V R) post xp := by
  exact J.callSX (As := [.ref x, .ref a2]) (hcw := by rw [hM]; exact lw_SW q1966 q1967 q143 q1968) (mX0_send htr (Nat.le_refl _) hT hw) hd rfl ⟨by decide, by decide, by show _ = some 2; decide +kernel⟩ hw8 ⟨hdd, by decide⟩ hcc (fun r9 g9 h9 => by obtain ⟨s9, V9, R9, rfl, r, rfl, h⟩ := h9; exact kk r s9 V9 R9 h) jNo.x
theorem uL_253 {G : jG} {l : Launch} {M : jM} {d c n pc : Nat} {lv : List (Nat × Value)} {rest : List Value} {post : Option Value → List jC → Prop} {xp : String → List jC → Prop} (hM : M.1.cls = RL) (htr : l.stackTraces = false) {sh : List jH} {V : Nat → Nat → Int32} {R : Nat → Nat → Option Nat} {t : Nat} (hT : jReg shX6 sh t) {Q : Int32 → (Nat → Nat → Int32) → Prop} (hd : decode M.2.1 pc = .ok (.invokevirtual 253, 3)) (hdd : 2 + 1 ≤ d) (hw8 : (rest.map fun v => v.category).sum ≤ 8) (hw : wX6_send t V Q) (kk : ∀ r V', Q r V' → J G l M d c n (pc + 3) lv (.int r :: rest) (mk sh V' R) post xp) : J G l M d c n pc lv (.ref t :: rest) (mk sh V R) post xp := by
  exact J.callV (As := []) (hcw := by rw [hM]; exact lw_V q2659 q2660 q2661 q152 q2662) (mX6_send htr hT hw) hd rfl ⟨5, _, _, mk_at (hT.at 0 rfl), rfl, rfl, fun _ => rfl⟩ ⟨rfl, by decide, by decide, by show _ = some 0; decide +kernel⟩ hw8 ⟨hdd, by decide⟩ jcc0 (fun r9 g9 h9 => by obtain ⟨V9, rfl, r, rfl, h⟩ := h9; exact kk r V9 h) jNo.x
theorem uL_254 {G : jG} {l : Launch} {M : jM} {d c n pc : Nat} {lv : List (Nat × Value)} {rest : List Value} {post : Option Value → List jC → Prop} {xp : String → List jC → Prop} (hM : M.1.cls = RL) (htr : l.stackTraces = false) {sh : List jH} {V : Nat → Nat → Int32} {R : Nat → Nat → Option Nat} {x : Nat} (hT : jReg shX1 sh x) {a2 : Int32} {a3 : Nat} {c1 n1 cq nq : Nat} {Q : Int32 → List jH → (Nat → Nat → Int32) → (Nat → Nat → Option Nat) → Prop} (hd : decode M.2.1 pc = .ok (.invokestatic 254, 3)) (hdd : 10 + 1 ≤ d) (hw8 : (rest.map fun v => v.category).sum ≤ 8) (hw : wX0_hand x sh V R c1 n1 a2 a3 Q) (hcc : c1 + c ≤ cq ∧ n1 + n ≤ nq) (kk : ∀ r sh' V' R', Q r sh' V' R' → J G l M d c n (pc + 3) lv (.int r :: rest) (mk sh' V' R') post xp) : J G l M d cq nq pc lv (.ref a3 :: .int a2 :: .ref x :: rest) (mk sh V R) post xp := by
  exact J.callSX (As := [.ref x, .int a2, .ref a3]) (hcw := by rw [hM]; exact lw_SW q1973 q1974 q143 q1975) (mX0_hand htr (Nat.le_refl _) hT hw) hd rfl ⟨by decide, by decide, by show _ = some 3; decide +kernel⟩ hw8 ⟨hdd, by decide⟩ hcc (fun r9 g9 h9 => by obtain ⟨s9, V9, R9, rfl, r, rfl, h⟩ := h9; exact kk r s9 V9 R9 h) jNo.x
theorem uL_256 {G : jG} {l : Launch} {M : jM} {d c n pc : Nat} {lv : List (Nat × Value)} {rest : List Value} {post : Option Value → List jC → Prop} {xp : String → List jC → Prop} (hM : M.1.cls = RL) (htr : l.stackTraces = false) {sh : List jH} {V : Nat → Nat → Int32} {R : Nat → Nat → Option Nat} {t : Nat} (hT : jReg shX6 sh t) {a1 : Int32} {Q : Int32 → (Nat → Nat → Int32) → Prop} (hd : decode M.2.1 pc = .ok (.invokevirtual 256, 3)) (hdd : 2 + 1 ≤ d) (hw8 : (rest.map fun v => v.category).sum ≤ 8) (hw : wX6_hand t V a1 Q) (kk : ∀ r V', Q r V' → J G l M d c n (pc + 3) lv (.int r :: rest) (mk sh V' R) post xp) : J G l M d c n pc lv (.int a1 :: .ref t :: rest) (mk sh V R) post xp := by
  exact J.callV (As := [.int a1]) (hcw := by rw [hM]; exact lw_V q2664 q2665 q2666 q152 q2667) (mX6_hand htr hT hw) hd rfl ⟨5, _, _, mk_at (hT.at 0 rfl), rfl, rfl, fun _ => rfl⟩ ⟨rfl, by decide, by decide, by show _ = some 1; decide +kernel⟩ hw8 ⟨hdd, by decide⟩ jcc0 (fun r9 g9 h9 => by obtain ⟨V9, rfl, r, rfl, h⟩ := h9; exact kk r V9 h) jNo.x
theorem uL_257 {G : jG} {l : Launch} {M : jM} {d c n pc : Nat} {lv : List (Nat × Value)} {rest : List Value} {post : Option Value → List jC → Prop} {xp : String → List jC → Prop} (hM : M.1.cls = RL) (htr : l.stackTraces = false) {sh : List jH} {V : Nat → Nat → Int32} {R : Nat → Nat → Option Nat} {x : Nat} (hT : jReg shX1 sh x) {Q : Int32 → (Nat → Nat → Int32) → Prop} (hd : decode M.2.1 pc = .ok (.invokevirtual 257, 3)) (hdd : 45 + 1 ≤ d) (hw8 : (rest.map fun v => v.category).sum ≤ 8) (hw : wX1_dry x sh R V Q) (kk : ∀ r V', Q r V' → J G l M d c n (pc + 3) lv (.int r :: rest) (mk sh V' R) post xp) : J G l M d c n pc lv (.ref x :: rest) (mk sh V R) post xp := by
  exact J.callV (As := []) (hcw := by rw [hM]; exact lw_V q708 q709 q710 q144 q711) (mX1_dry htr (Nat.le_refl _) hT hw) hd rfl ⟨0, _, _, mk_at (hT.at 0 rfl), rfl, rfl, fun _ => rfl⟩ ⟨rfl, by decide, by decide, by show _ = some 0; decide +kernel⟩ hw8 ⟨hdd, by decide⟩ jcc0 (fun r9 g9 h9 => by obtain ⟨V9, rfl, r, rfl, h⟩ := h9; exact kk r V9 h) jNo.x
theorem uL_260 {G : jG} {l : Launch} {M : jM} {d c n pc : Nat} {lv : List (Nat × Value)} {rest : List Value} {post : Option Value → List jC → Prop} {xp : String → List jC → Prop} (hM : M.1.cls = RL) (htr : l.stackTraces = false) {sh : List jH} {V : Nat → Nat → Int32} {R : Nat → Nat → Option Nat} {t : Nat} (hT : jReg shX6 sh t) {Q : Int32 → (Nat → Nat → Int32) → Prop} (hd : decode M.2.1 pc = .ok (.invokevirtual 260, 3)) (hdd : 73 + 1 ≤ d) (hw8 : (rest.map fun v => v.category).sum ≤ 8) (hw : wX6_dry t sh R V Q) (kk : ∀ r V', Q r V' → J G l M d c n (pc + 3) lv (.int r :: rest) (mk sh V' R) post xp) : J G l M d c n pc lv (.ref t :: rest) (mk sh V R) post xp := by
  exact J.callV (As := []) (hcw := by rw [hM]; exact lw_V q2672 q2673 q2674 q152 q2675) (mX6_dry htr (Nat.le_refl _) hT hw) hd rfl ⟨5, _, _, mk_at (hT.at 0 rfl), rfl, rfl, fun _ => rfl⟩ ⟨rfl, by decide, by decide, by show _ = some 0; decide +kernel⟩ hw8 ⟨hdd, by decide⟩ jcc0 (fun r9 g9 h9 => by obtain ⟨V9, rfl, r, rfl, h⟩ := h9; exact kk r V9 h) jNo.x
theorem uL_261 {G : jG} {l : Launch} {M : jM} {d c n pc : Nat} {lv : List (Nat × Value)} {rest : List Value} {post : Option Value → List jC → Prop} {xp : String → List jC → Prop} (hM : M.1.cls = RL) (htr : l.stackTraces = false) {sh : List jH} {V : Nat → Nat → Int32} {R : Nat → Nat → Option Nat} {x : Nat} (hT : jReg shX1 sh x) {a2 : Int32} {a3 : Int32} {a4 : Nat} {c1 n1 cq nq : Nat} {Q : Int32 → List jH → (Nat → Nat → Int32) → (Nat → Nat → Option Nat) → Prop} (hd : decode M.2.1 pc = .ok (.invokestatic 261, 3)) (hdd : 106 + 1 ≤ d) (hw8 : (rest.map fun v => v.category).sum ≤ 8) (hw : wX0_saved x sh V R c1 n1 a2 a3 a4 Q) (hcc : c1 + c ≤ cq ∧ n1 + n ≤ nq) (kk : ∀ r sh' V' R', Q r sh' V' R' → J G l M d c n (pc + 3) lv (.int r :: rest) (mk sh' V' R') post xp) : J G l M d cq nq pc lv (.ref a4 :: .int a3 :: .int a2 :: .ref x :: rest) (mk sh V R) post xp := by
  exact J.callSX (As := [.ref x, .int a2, .int a3, .ref a4]) (hcw := by rw [hM]; exact lw_SW q1984 q1985 q143 q1986) (mX0_saved htr (Nat.le_refl _) hT hw) hd rfl ⟨by decide, by decide, by show _ = some 4; decide +kernel⟩ hw8 ⟨hdd, by decide⟩ hcc (fun r9 g9 h9 => by obtain ⟨s9, V9, R9, rfl, r, rfl, h⟩ := h9; exact kk r s9 V9 R9 h) jNo.x
theorem uL_263 {G : jG} {l : Launch} {M : jM} {d c n pc : Nat} {lv : List (Nat × Value)} {rest : List Value} {post : Option Value → List jC → Prop} {xp : String → List jC → Prop} (hM : M.1.cls = RL) (htr : l.stackTraces = false) {sh : List jH} {V : Nat → Nat → Int32} {R : Nat → Nat → Option Nat} {t : Nat} (hT : jReg shX6 sh t) {a1 : Int32} {a2 : Int32} {Q : Int32 → (Nat → Nat → Int32) → Prop} (hd : decode M.2.1 pc = .ok (.invokevirtual 263, 3)) (hdd : 73 + 1 ≤ d) (hw8 : (rest.map fun v => v.category).sum ≤ 8) (hw : wX6_saved t sh R V a1 a2 Q) (kk : ∀ r V', Q r V' → J G l M d c n (pc + 3) lv (.int r :: rest) (mk sh V' R) post xp) : J G l M d c n pc lv (.int a2 :: .int a1 :: .ref t :: rest) (mk sh V R) post xp := by
  exact J.callV (As := [.int a1, .int a2]) (hcw := by rw [hM]; exact lw_V q2680 q2681 q2682 q152 q2683) (mX6_saved htr (Nat.le_refl _) hT hw) hd rfl ⟨5, _, _, mk_at (hT.at 0 rfl), rfl, rfl, fun _ => rfl⟩ ⟨rfl, by decide, by decide, by show _ = some 2; decide +kernel⟩ hw8 ⟨hdd, by decide⟩ jcc0 (fun r9 g9 h9 => by obtain ⟨V9, rfl, r, rfl, h⟩ := h9; exact kk r V9 h) jNo.x
theorem uL_264 {G : jG} {l : Launch} {M : jM} {d c n pc : Nat} {lv : List (Nat × Value)} {rest : List Value} {post : Option Value → List jC → Prop} {xp : String → List jC → Prop} (hM : M.1.cls = RL) (htr : l.stackTraces = false) {sh : List jH} {V : Nat → Nat → Int32} {R : Nat → Nat → Option Nat} {x : Nat} (hT : jReg shX1 sh x) {a2 : Int32} {a3 : Nat} {c1 n1 cq nq : Nat} {Q : Int32 → List jH → (Nat → Nat → Int32) → (Nat → Nat → Option Nat) → Prop} (hd : decode M.2.1 pc = .ok (.invokestatic 264, 3)) (hdd : 11 + 1 ≤ d) (hw8 : (rest.map fun v => v.category).sum ≤ 8) (hw : wX0_lend x sh V R c1 n1 a2 a3 Q) (hcc : c1 + c ≤ cq ∧ n1 + n ≤ nq) (kk : ∀ r sh' V' R', Q r sh' V' R' → J G l M d c n (pc + 3) lv (.int r :: rest) (mk sh' V' R') post xp) : J G l M d cq nq pc lv (.ref a3 :: .int a2 :: .ref x :: rest) (mk sh V R) post xp := by
  exact J.callSX (As := [.ref x, .int a2, .ref a3]) (hcw := by rw [hM]; exact lw_SW q1995 q1996 q143 q1997) (mX0_lend htr (Nat.le_refl _) hT hw) hd rfl ⟨by decide, by decide, by show _ = some 3; decide +kernel⟩ hw8 ⟨hdd, by decide⟩ hcc (fun r9 g9 h9 => by obtain ⟨s9, V9, R9, rfl, r, rfl, h⟩ := h9; exact kk r s9 V9 R9 h) jNo.x
theorem uL_266 {G : jG} {l : Launch} {M : jM} {d c n pc : Nat} {lv : List (Nat × Value)} {rest : List Value} {post : Option Value → List jC → Prop} {xp : String → List jC → Prop} (hM : M.1.cls = RL) (htr : l.stackTraces = false) {sh : List jH} {V : Nat → Nat → Int32} {R : Nat → Nat → Option Nat} {t : Nat} (hT : jReg shX6 sh t) {a1 : Int32} {Q : Int32 → (Nat → Nat → Int32) → Prop} (hd : decode M.2.1 pc = .ok (.invokevirtual 266, 3)) (hdd : 5 + 1 ≤ d) (hw8 : (rest.map fun v => v.category).sum ≤ 8) (hw : wX6_lend t V a1 Q) (kk : ∀ r V', Q r V' → J G l M d c n (pc + 3) lv (.int r :: rest) (mk sh V' R) post xp) : J G l M d c n pc lv (.int a1 :: .ref t :: rest) (mk sh V R) post xp := by
  exact J.callV (As := [.int a1]) (hcw := by rw [hM]; exact lw_V q2644 q2645 q2646 q152 q2647) (mX6_lend htr hT hw) hd rfl ⟨5, _, _, mk_at (hT.at 0 rfl), rfl, rfl, fun _ => rfl⟩ ⟨rfl, by decide, by decide, by show _ = some 1; decide +kernel⟩ hw8 ⟨hdd, by decide⟩ jcc0 (fun r9 g9 h9 => by obtain ⟨V9, rfl, r, rfl, h⟩ := h9; exact kk r V9 h) jNo.x
theorem uL_267 {G : jG} {l : Launch} {M : jM} {d c n pc : Nat} {lv : List (Nat × Value)} {rest : List Value} {post : Option Value → List jC → Prop} {xp : String → List jC → Prop} (hM : M.1.cls = RL) (htr : l.stackTraces = false) {sh : List jH} {V : Nat → Nat → Int32} {R : Nat → Nat → Option Nat} {x : Nat} (hT : jReg shX1 sh x) {a2 : Int32} {a3 : Int32} {a4 : Nat} {c1 n1 cq nq : Nat} {Q : Int32 → List jH → (Nat → Nat → Int32) → (Nat → Nat → Option Nat) → Prop} (hd : decode M.2.1 pc = .ok (.invokestatic 267, 3)) (hdd : 10 + 1 ≤ d) (hw8 : (rest.map fun v => v.category).sum ≤ 8) (hw : wX0_odds x sh V R c1 n1 a2 a3 a4 Q) (hcc : c1 + c ≤ cq ∧ n1 + n ≤ nq) (kk : ∀ r sh' V' R', Q r sh' V' R' → J G l M d c n (pc + 3) lv (.int r :: rest) (mk sh' V' R') post xp) : J G l M d cq nq pc lv (.ref a4 :: .int a3 :: .int a2 :: .ref x :: rest) (mk sh V R) post xp := by
  exact J.callSX (As := [.ref x, .int a2, .int a3, .ref a4]) (hcw := by rw [hM]; exact lw_SW q2013 q2014 q143 q2015) (mX0_odds htr (Nat.le_refl _) hT hw) hd rfl ⟨by decide, by decide, by show _ = some 4; decide +kernel⟩ hw8 ⟨hdd, by decide⟩ hcc (fun r9 g9 h9 => by obtain ⟨s9, V9, R9, rfl, r, rfl, h⟩ := h9; exact kk r s9 V9 R9 h) jNo.x
theorem uL_269 {G : jG} {l : Launch} {M : jM} {d c n pc : Nat} {lv : List (Nat × Value)} {rest : List Value} {post : Option Value → List jC → Prop} {xp : String → List jC → Prop} (hM : M.1.cls = RL) (htr : l.stackTraces = false) {sh : List jH} {V : Nat → Nat → Int32} {R : Nat → Nat → Option Nat} {t : Nat} (hT : jReg shX6 sh t) {a1 : Int32} {a2 : Int32} {Q : Int32 → (Nat → Nat → Int32) → Prop} (hd : decode M.2.1 pc = .ok (.invokevirtual 269, 3)) (hdd : 1 + 1 ≤ d) (hw8 : (rest.map fun v => v.category).sum ≤ 8) (hw : wX6_odds t V a1 a2 Q) (kk : ∀ r V', Q r V' → J G l M d c n (pc + 3) lv (.int r :: rest) (mk sh V' R) post xp) : J G l M d c n pc lv (.int a2 :: .int a1 :: .ref t :: rest) (mk sh V R) post xp := by
  exact J.callV (As := [.int a1, .int a2]) (hcw := by rw [hM]; exact lw_V q2684 q2685 q2686 q152 q2687) (mX6_odds htr hT hw) hd rfl ⟨5, _, _, mk_at (hT.at 0 rfl), rfl, rfl, fun _ => rfl⟩ ⟨rfl, by decide, by decide, by show _ = some 2; decide +kernel⟩ hw8 ⟨hdd, by decide⟩ jcc0 (fun r9 g9 h9 => by obtain ⟨V9, rfl, r, rfl, h⟩ := h9; exact kk r V9 h) jNo.x
theorem uL_270 {G : jG} {l : Launch} {M : jM} {d c n pc : Nat} {lv : List (Nat × Value)} {rest : List Value} {post : Option Value → List jC → Prop} {xp : String → List jC → Prop} (hM : M.1.cls = RL) (htr : l.stackTraces = false) {sh : List jH} {V : Nat → Nat → Int32} {R : Nat → Nat → Option Nat} {x : Nat} (hT : jReg shX1 sh x) {a2 : Int32} {a3 : Int32} {a4 : Nat} {c1 n1 cq nq : Nat} {Q : Int32 → List jH → (Nat → Nat → Int32) → (Nat → Nat → Option Nat) → Prop} (hd : decode M.2.1 pc = .ok (.invokestatic 270, 3)) (hdd : 11 + 1 ≤ d) (hw8 : (rest.map fun v => v.category).sum ≤ 8) (hw : wX0_waits x sh V R c1 n1 a2 a3 a4 Q) (hcc : c1 + c ≤ cq ∧ n1 + n ≤ nq) (kk : ∀ r sh' V' R', Q r sh' V' R' → J G l M d c n (pc + 3) lv (.int r :: rest) (mk sh' V' R') post xp) : J G l M d cq nq pc lv (.ref a4 :: .int a3 :: .int a2 :: .ref x :: rest) (mk sh V R) post xp := by
  exact J.callSX (As := [.ref x, .int a2, .int a3, .ref a4]) (hcw := by rw [hM]; exact lw_SW q2022 q2023 q143 q2024) (mX0_waits htr (Nat.le_refl _) hT hw) hd rfl ⟨by decide, by decide, by show _ = some 4; decide +kernel⟩ hw8 ⟨hdd, by decide⟩ hcc (fun r9 g9 h9 => by obtain ⟨s9, V9, R9, rfl, r, rfl, h⟩ := h9; exact kk r s9 V9 R9 h) jNo.x
theorem uL_272 {G : jG} {l : Launch} {M : jM} {d c n pc : Nat} {lv : List (Nat × Value)} {rest : List Value} {post : Option Value → List jC → Prop} {xp : String → List jC → Prop} (hM : M.1.cls = RL) (htr : l.stackTraces = false) {sh : List jH} {V : Nat → Nat → Int32} {R : Nat → Nat → Option Nat} {t : Nat} (hT : jReg shX6 sh t) {a1 : Int32} {a2 : Int32} {Q : Int32 → (Nat → Nat → Int32) → Prop} (hd : decode M.2.1 pc = .ok (.invokevirtual 272, 3)) (hdd : 2 + 1 ≤ d) (hw8 : (rest.map fun v => v.category).sum ≤ 8) (hw : wX6_waits t V a1 a2 Q) (kk : ∀ r V', Q r V' → J G l M d c n (pc + 3) lv (.int r :: rest) (mk sh V' R) post xp) : J G l M d c n pc lv (.int a2 :: .int a1 :: .ref t :: rest) (mk sh V R) post xp := by
  exact J.callV (As := [.int a1, .int a2]) (hcw := by rw [hM]; exact lw_V q2692 q2693 q2694 q152 q2695) (mX6_waits htr hT hw) hd rfl ⟨5, _, _, mk_at (hT.at 0 rfl), rfl, rfl, fun _ => rfl⟩ ⟨rfl, by decide, by decide, by show _ = some 2; decide +kernel⟩ hw8 ⟨hdd, by decide⟩ jcc0 (fun r9 g9 h9 => by obtain ⟨V9, rfl, r, rfl, h⟩ := h9; exact kk r V9 h) jNo.x
theorem uL_273 {G : jG} {l : Launch} {M : jM} {d c n pc : Nat} {lv : List (Nat × Value)} {rest : List Value} {post : Option Value → List jC → Prop} {xp : String → List jC → Prop} (hM : M.1.cls = RL) (htr : l.stackTraces = false) {sh : List jH} {V : Nat → Nat → Int32} {R : Nat → Nat → Option Nat} {x : Nat} (hT : jReg shX1 sh x) {a2 : Int32} {a3 : Int32} {a4 : Nat} {c1 n1 cq nq : Nat} {Q : Int32 → List jH → (Nat → Nat → Int32) → (Nat → Nat → Option Nat) → Prop} (hd : decode M.2.1 pc = .ok (.invokestatic 273, 3)) (hdd : 12 + 1 ≤ d) (hw8 : (rest.map fun v => v.category).sum ≤ 8) (hw : wX0_treaty x sh V R c1 n1 a2 a3 a4 Q) (hcc : c1 + c ≤ cq ∧ n1 + n ≤ nq) (kk : ∀ r sh' V' R', Q r sh' V' R' → J G l M d c n (pc + 3) lv (.int r :: rest) (mk sh' V' R') post xp) : J G l M d cq nq pc lv (.ref a4 :: .int a3 :: .int a2 :: .ref x :: rest) (mk sh V R) post xp := by
  exact J.callSX (As := [.ref x, .int a2, .int a3, .ref a4]) (hcw := by rw [hM]; exact lw_SW q2033 q2034 q143 q2035) (mX0_treaty htr (Nat.le_refl _) hT hw) hd rfl ⟨by decide, by decide, by show _ = some 4; decide +kernel⟩ hw8 ⟨hdd, by decide⟩ hcc (fun r9 g9 h9 => by obtain ⟨s9, V9, R9, rfl, r, rfl, h⟩ := h9; exact kk r s9 V9 R9 h) jNo.x
theorem uL_275 {G : jG} {l : Launch} {M : jM} {d c n pc : Nat} {lv : List (Nat × Value)} {rest : List Value} {post : Option Value → List jC → Prop} {xp : String → List jC → Prop} (hM : M.1.cls = RL) (htr : l.stackTraces = false) {sh : List jH} {V : Nat → Nat → Int32} {R : Nat → Nat → Option Nat} {t : Nat} (hT : jReg shX6 sh t) {a1 : Int32} {a2 : Int32} {Q : Int32 → (Nat → Nat → Int32) → Prop} (hd : decode M.2.1 pc = .ok (.invokevirtual 275, 3)) (hdd : 2 + 1 ≤ d) (hw8 : (rest.map fun v => v.category).sum ≤ 8) (hw : wX6_treaty t V a1 a2 Q) (kk : ∀ r V', Q r V' → J G l M d c n (pc + 3) lv (.int r :: rest) (mk sh V' R) post xp) : J G l M d c n pc lv (.int a2 :: .int a1 :: .ref t :: rest) (mk sh V R) post xp := by
  exact J.callV (As := [.int a1, .int a2]) (hcw := by rw [hM]; exact lw_V q2696 q2697 q2698 q152 q2699) (mX6_treaty htr hT hw) hd rfl ⟨5, _, _, mk_at (hT.at 0 rfl), rfl, rfl, fun _ => rfl⟩ ⟨rfl, by decide, by decide, by show _ = some 2; decide +kernel⟩ hw8 ⟨hdd, by decide⟩ jcc0 (fun r9 g9 h9 => by obtain ⟨V9, rfl, r, rfl, h⟩ := h9; exact kk r V9 h) jNo.x
theorem uL_276 {G : jG} {l : Launch} {M : jM} {d c n pc : Nat} {lv : List (Nat × Value)} {rest : List Value} {post : Option Value → List jC → Prop} {xp : String → List jC → Prop} (hM : M.1.cls = RL) (htr : l.stackTraces = false) {sh : List jH} {V : Nat → Nat → Int32} {R : Nat → Nat → Option Nat} {x : Nat} (hT : jReg shX1 sh x) {a2 : Int32} {a3 : Int32} {a4 : Nat} {c1 n1 cq nq : Nat} {Q : Int32 → List jH → (Nat → Nat → Int32) → (Nat → Nat → Option Nat) → Prop} (hd : decode M.2.1 pc = .ok (.invokestatic 276, 3)) (hdd : 11 + 1 ≤ d) (hw8 : (rest.map fun v => v.category).sum ≤ 8) (hw : wX0_rests x sh V R c1 n1 a2 a3 a4 Q) (hcc : c1 + c ≤ cq ∧ n1 + n ≤ nq) (kk : ∀ r sh' V' R', Q r sh' V' R' → J G l M d c n (pc + 3) lv (.int r :: rest) (mk sh' V' R') post xp) : J G l M d cq nq pc lv (.ref a4 :: .int a3 :: .int a2 :: .ref x :: rest) (mk sh V R) post xp := by
  exact J.callSX (As := [.ref x, .int a2, .int a3, .ref a4]) (hcw := by rw [hM]; exact lw_SW q2044 q2045 q143 q2046) (mX0_rests htr (Nat.le_refl _) hT hw) hd rfl ⟨by decide, by decide, by show _ = some 4; decide +kernel⟩ hw8 ⟨hdd, by decide⟩ hcc (fun r9 g9 h9 => by obtain ⟨s9, V9, R9, rfl, r, rfl, h⟩ := h9; exact kk r s9 V9 R9 h) jNo.x
theorem uL_278 {G : jG} {l : Launch} {M : jM} {d c n pc : Nat} {lv : List (Nat × Value)} {rest : List Value} {post : Option Value → List jC → Prop} {xp : String → List jC → Prop} (hM : M.1.cls = RL) (htr : l.stackTraces = false) {sh : List jH} {V : Nat → Nat → Int32} {R : Nat → Nat → Option Nat} {t : Nat} (hT : jReg shX6 sh t) {a1 : Int32} {a2 : Int32} {Q : Int32 → (Nat → Nat → Int32) → Prop} (hd : decode M.2.1 pc = .ok (.invokevirtual 278, 3)) (hdd : 2 + 1 ≤ d) (hw8 : (rest.map fun v => v.category).sum ≤ 8) (hw : wX6_rests t V a1 a2 Q) (kk : ∀ r V', Q r V' → J G l M d c n (pc + 3) lv (.int r :: rest) (mk sh V' R) post xp) : J G l M d c n pc lv (.int a2 :: .int a1 :: .ref t :: rest) (mk sh V R) post xp := by
  exact J.callV (As := [.int a1, .int a2]) (hcw := by rw [hM]; exact lw_V q2704 q2705 q2706 q152 q2707) (mX6_rests htr hT hw) hd rfl ⟨5, _, _, mk_at (hT.at 0 rfl), rfl, rfl, fun _ => rfl⟩ ⟨rfl, by decide, by decide, by show _ = some 2; decide +kernel⟩ hw8 ⟨hdd, by decide⟩ jcc0 (fun r9 g9 h9 => by obtain ⟨V9, rfl, r, rfl, h⟩ := h9; exact kk r V9 h) jNo.x
theorem uL_279 {G : jG} {l : Launch} {M : jM} {d c n pc : Nat} {lv : List (Nat × Value)} {rest : List Value} {post : Option Value → List jC → Prop} {xp : String → List jC → Prop} (hM : M.1.cls = RL) (htr : l.stackTraces = false) {sh : List jH} {V : Nat → Nat → Int32} {R : Nat → Nat → Option Nat} {x : Nat} (hT : jReg shX1 sh x) {Q : Int32 → Prop} (hd : decode M.2.1 pc = .ok (.invokevirtual 279, 3)) (hdd : 1 + 1 ≤ d) (hw8 : (rest.map fun v => v.category).sum ≤ 8) (hw : wX1_dearest x V Q) (kk : ∀ r, Q r → J G l M d c n (pc + 3) lv (.int r :: rest) (mk sh V R) post xp) : J G l M d c n pc lv (.ref x :: rest) (mk sh V R) post xp := by
  exact J.callV (As := []) (hcw := by rw [hM]; exact lw_V q726 q727 q728 q144 q729) (mX1_dearest htr hT hw) hd rfl ⟨0, _, _, mk_at (hT.at 0 rfl), rfl, rfl, fun _ => rfl⟩ ⟨rfl, by decide, by decide, by show _ = some 0; decide +kernel⟩ hw8 ⟨hdd, by decide⟩ jcc0 (fun r9 g9 h9 => by obtain ⟨rfl, r, rfl, h⟩ := h9; exact kk r h) jNo.x
theorem uL_282 {G : jG} {l : Launch} {M : jM} {d c n pc : Nat} {lv : List (Nat × Value)} {rest : List Value} {post : Option Value → List jC → Prop} {xp : String → List jC → Prop} (hM : M.1.cls = RL) (htr : l.stackTraces = false) {sh : List jH} {V : Nat → Nat → Int32} {R : Nat → Nat → Option Nat} {t : Nat} (hT : jReg shX6 sh t) {Q : Int32 → (Nat → Nat → Int32) → Prop} (hd : decode M.2.1 pc = .ok (.invokevirtual 282, 3)) (hdd : 2 + 1 ≤ d) (hw8 : (rest.map fun v => v.category).sum ≤ 8) (hw : wX6_dearest t V Q) (kk : ∀ r V', Q r V' → J G l M d c n (pc + 3) lv (.int r :: rest) (mk sh V' R) post xp) : J G l M d c n pc lv (.ref t :: rest) (mk sh V R) post xp := by
  exact J.callV (As := []) (hcw := by rw [hM]; exact lw_V q2715 q2716 q2717 q152 q2718) (mX6_dearest htr hT hw) hd rfl ⟨5, _, _, mk_at (hT.at 0 rfl), rfl, rfl, fun _ => rfl⟩ ⟨rfl, by decide, by decide, by show _ = some 0; decide +kernel⟩ hw8 ⟨hdd, by decide⟩ jcc0 (fun r9 g9 h9 => by obtain ⟨V9, rfl, r, rfl, h⟩ := h9; exact kk r V9 h) jNo.x
theorem uL_283 {G : jG} {l : Launch} {M : jM} {d c n pc : Nat} {lv : List (Nat × Value)} {rest : List Value} {post : Option Value → List jC → Prop} {xp : String → List jC → Prop} (hM : M.1.cls = RL) (htr : l.stackTraces = false) {sh : List jH} {V : Nat → Nat → Int32} {R : Nat → Nat → Option Nat} {x : Nat} (hT : jReg shX1 sh x) {Q : Int32 → Prop} (hd : decode M.2.1 pc = .ok (.invokevirtual 283, 3)) (hdd : 3 + 1 ≤ d) (hw8 : (rest.map fun v => v.category).sum ≤ 8) (hw : wX1_forlorn x V Q) (kk : ∀ r, Q r → J G l M d c n (pc + 3) lv (.int r :: rest) (mk sh V R) post xp) : J G l M d c n pc lv (.ref x :: rest) (mk sh V R) post xp := by
  exact J.callV (As := []) (hcw := by rw [hM]; exact lw_V q734 q735 q736 q144 q737) (mX1_forlorn htr hT hw) hd rfl ⟨0, _, _, mk_at (hT.at 0 rfl), rfl, rfl, fun _ => rfl⟩ ⟨rfl, by decide, by decide, by show _ = some 0; decide +kernel⟩ hw8 ⟨hdd, by decide⟩ jcc0 (fun r9 g9 h9 => by obtain ⟨rfl, r, rfl, h⟩ := h9; exact kk r h) jNo.x
theorem uL_286 {G : jG} {l : Launch} {M : jM} {d c n pc : Nat} {lv : List (Nat × Value)} {rest : List Value} {post : Option Value → List jC → Prop} {xp : String → List jC → Prop} (hM : M.1.cls = RL) (htr : l.stackTraces = false) {sh : List jH} {V : Nat → Nat → Int32} {R : Nat → Nat → Option Nat} {t : Nat} (hT : jReg shX6 sh t) {Q : Int32 → (Nat → Nat → Int32) → Prop} (hd : decode M.2.1 pc = .ok (.invokevirtual 286, 3)) (hdd : 3 + 1 ≤ d) (hw8 : (rest.map fun v => v.category).sum ≤ 8) (hw : wX6_forlorn t V Q) (kk : ∀ r V', Q r V' → J G l M d c n (pc + 3) lv (.int r :: rest) (mk sh V' R) post xp) : J G l M d c n pc lv (.ref t :: rest) (mk sh V R) post xp := by
  exact J.callV (As := []) (hcw := by rw [hM]; exact lw_V q2719 q2720 q2721 q152 q2722) (mX6_forlorn htr hT hw) hd rfl ⟨5, _, _, mk_at (hT.at 0 rfl), rfl, rfl, fun _ => rfl⟩ ⟨rfl, by decide, by decide, by show _ = some 0; decide +kernel⟩ hw8 ⟨hdd, by decide⟩ jcc0 (fun r9 g9 h9 => by obtain ⟨V9, rfl, r, rfl, h⟩ := h9; exact kk r V9 h) jNo.x
theorem uL_287 {G : jG} {l : Launch} {M : jM} {d c n pc : Nat} {lv : List (Nat × Value)} {rest : List Value} {post : Option Value → List jC → Prop} {xp : String → List jC → Prop} (hM : M.1.cls = RL) (htr : l.stackTraces = false) {sh : List jH} {V : Nat → Nat → Int32} {R : Nat → Nat → Option Nat} {x : Nat} (hT : jReg shX1 sh x) {Q : Int32 → Prop} (hd : decode M.2.1 pc = .ok (.invokevirtual 287, 3)) (hdd : 1 + 1 ≤ d) (hw8 : (rest.map fun v => v.category).sum ≤ 8) (hw : wX1_alike x V Q) (kk : ∀ r, Q r → J G l M d c n (pc + 3) lv (.int r :: rest) (mk sh V R) post xp) : J G l M d c n pc lv (.ref x :: rest) (mk sh V R) post xp := by
  exact J.callV (As := []) (hcw := by rw [hM]; exact lw_V q742 q743 q744 q144 q745) (mX1_alike htr hT hw) hd rfl ⟨0, _, _, mk_at (hT.at 0 rfl), rfl, rfl, fun _ => rfl⟩ ⟨rfl, by decide, by decide, by show _ = some 0; decide +kernel⟩ hw8 ⟨hdd, by decide⟩ jcc0 (fun r9 g9 h9 => by obtain ⟨rfl, r, rfl, h⟩ := h9; exact kk r h) jNo.x
theorem uL_290 {G : jG} {l : Launch} {M : jM} {d c n pc : Nat} {lv : List (Nat × Value)} {rest : List Value} {post : Option Value → List jC → Prop} {xp : String → List jC → Prop} (hM : M.1.cls = RL) (htr : l.stackTraces = false) {sh : List jH} {V : Nat → Nat → Int32} {R : Nat → Nat → Option Nat} {t : Nat} (hT : jReg shX6 sh t) {Q : Int32 → (Nat → Nat → Int32) → Prop} (hd : decode M.2.1 pc = .ok (.invokevirtual 290, 3)) (hdd : 2 + 1 ≤ d) (hw8 : (rest.map fun v => v.category).sum ≤ 8) (hw : wX6_alike t V Q) (kk : ∀ r V', Q r V' → J G l M d c n (pc + 3) lv (.int r :: rest) (mk sh V' R) post xp) : J G l M d c n pc lv (.ref t :: rest) (mk sh V R) post xp := by
  exact J.callV (As := []) (hcw := by rw [hM]; exact lw_V q2723 q2724 q2725 q152 q2726) (mX6_alike htr hT hw) hd rfl ⟨5, _, _, mk_at (hT.at 0 rfl), rfl, rfl, fun _ => rfl⟩ ⟨rfl, by decide, by decide, by show _ = some 0; decide +kernel⟩ hw8 ⟨hdd, by decide⟩ jcc0 (fun r9 g9 h9 => by obtain ⟨V9, rfl, r, rfl, h⟩ := h9; exact kk r V9 h) jNo.x
theorem uL_291 {G : jG} {l : Launch} {M : jM} {d c n pc : Nat} {lv : List (Nat × Value)} {rest : List Value} {post : Option Value → List jC → Prop} {xp : String → List jC → Prop} (hM : M.1.cls = RL) (htr : l.stackTraces = false) {sh : List jH} {V : Nat → Nat → Int32} {R : Nat → Nat → Option Nat} {x : Nat} (hT : jReg shX1 sh x) {a2 : Int32} {a3 : Nat} {c1 n1 cq nq : Nat} {Q : Int32 → List jH → (Nat → Nat → Int32) → (Nat → Nat → Option Nat) → Prop} (hd : decode M.2.1 pc = .ok (.invokestatic 291, 3)) (hdd : 47 + 1 ≤ d) (hw8 : (rest.map fun v => v.category).sum ≤ 8) (hw : wX0_settle x sh V R c1 n1 a2 a3 Q) (hcc : c1 + c ≤ cq ∧ n1 + n ≤ nq) (kk : ∀ r sh' V' R', Q r sh' V' R' → J G l M d c n (pc + 3) lv (.int r :: rest) (mk sh' V' R') post xp) : J G l M d cq nq pc lv (.ref a3 :: .int a2 :: .ref x :: rest) (mk sh V R) post xp := by
  exact J.callSX (As := [.ref x, .int a2, .ref a3]) (hcw := by rw [hM]; exact lw_SW q2058 q2059 q143 q2060) (mX0_settle htr (Nat.le_refl _) hT hw) hd rfl ⟨by decide, by decide, by show _ = some 3; decide +kernel⟩ hw8 ⟨hdd, by decide⟩ hcc (fun r9 g9 h9 => by obtain ⟨s9, V9, R9, rfl, r, rfl, h⟩ := h9; exact kk r s9 V9 R9 h) jNo.x
theorem uL_293 {G : jG} {l : Launch} {M : jM} {d c n pc : Nat} {lv : List (Nat × Value)} {rest : List Value} {post : Option Value → List jC → Prop} {xp : String → List jC → Prop} (hM : M.1.cls = RL) (htr : l.stackTraces = false) {sh : List jH} {V : Nat → Nat → Int32} {R : Nat → Nat → Option Nat} {t : Nat} (hT : jReg shX6 sh t) {a1 : Int32} {Q : Int32 → (Nat → Nat → Int32) → Prop} (hd : decode M.2.1 pc = .ok (.invokevirtual 293, 3)) (hdd : 74 + 1 ≤ d) (hw8 : (rest.map fun v => v.category).sum ≤ 8) (hw : wX6_settle t sh R V a1 Q) (kk : ∀ r V', Q r V' → J G l M d c n (pc + 3) lv (.int r :: rest) (mk sh V' R) post xp) : J G l M d c n pc lv (.int a1 :: .ref t :: rest) (mk sh V R) post xp := by
  exact J.callV (As := [.int a1]) (hcw := by rw [hM]; exact lw_V q2731 q2732 q2733 q152 q2734) (mX6_settle htr (Nat.le_refl _) hT hw) hd rfl ⟨5, _, _, mk_at (hT.at 0 rfl), rfl, rfl, fun _ => rfl⟩ ⟨rfl, by decide, by decide, by show _ = some 1; decide +kernel⟩ hw8 ⟨hdd, by decide⟩ jcc0 (fun r9 g9 h9 => by obtain ⟨V9, rfl, r, rfl, h⟩ := h9; exact kk r V9 h) jNo.x
theorem uL_294 {G : jG} {l : Launch} {M : jM} {d c n pc : Nat} {lv : List (Nat × Value)} {rest : List Value} {post : Option Value → List jC → Prop} {xp : String → List jC → Prop} (hM : M.1.cls = RL) (htr : l.stackTraces = false) {sh : List jH} {V : Nat → Nat → Int32} {R : Nat → Nat → Option Nat} {x : Nat} (hT : jReg shX1 sh x) {a2 : Int32} {a3 : Nat} {c1 n1 cq nq : Nat} {Q : Int32 → List jH → (Nat → Nat → Int32) → (Nat → Nat → Option Nat) → Prop} (hd : decode M.2.1 pc = .ok (.invokestatic 294, 3)) (hdd : 47 + 1 ≤ d) (hw8 : (rest.map fun v => v.category).sum ≤ 8) (hw : wX0_gladder x sh V R c1 n1 a2 a3 Q) (hcc : c1 + c ≤ cq ∧ n1 + n ≤ nq) (kk : ∀ r sh' V' R', Q r sh' V' R' → J G l M d c n (pc + 3) lv (.int r :: rest) (mk sh' V' R') post xp) : J G l M d cq nq pc lv (.ref a3 :: .int a2 :: .ref x :: rest) (mk sh V R) post xp := by
  exact J.callSX (As := [.ref x, .int a2, .ref a3]) (hcw := by rw [hM]; exact lw_SW q2069 q2070 q143 q2071) (mX0_gladder htr (Nat.le_refl _) hT hw) hd rfl ⟨by decide, by decide, by show _ = some 3; decide +kernel⟩ hw8 ⟨hdd, by decide⟩ hcc (fun r9 g9 h9 => by obtain ⟨s9, V9, R9, rfl, r, rfl, h⟩ := h9; exact kk r s9 V9 R9 h) jNo.x
theorem uL_296 {G : jG} {l : Launch} {M : jM} {d c n pc : Nat} {lv : List (Nat × Value)} {rest : List Value} {post : Option Value → List jC → Prop} {xp : String → List jC → Prop} (hM : M.1.cls = RL) (htr : l.stackTraces = false) {sh : List jH} {V : Nat → Nat → Int32} {R : Nat → Nat → Option Nat} {t : Nat} (hT : jReg shX6 sh t) {a1 : Int32} {Q : Int32 → (Nat → Nat → Int32) → Prop} (hd : decode M.2.1 pc = .ok (.invokevirtual 296, 3)) (hdd : 74 + 1 ≤ d) (hw8 : (rest.map fun v => v.category).sum ≤ 8) (hw : wX6_gladder t sh R V a1 Q) (kk : ∀ r V', Q r V' → J G l M d c n (pc + 3) lv (.int r :: rest) (mk sh V' R) post xp) : J G l M d c n pc lv (.int a1 :: .ref t :: rest) (mk sh V R) post xp := by
  exact J.callV (As := [.int a1]) (hcw := by rw [hM]; exact lw_V q2735 q2736 q2737 q152 q2738) (mX6_gladder htr (Nat.le_refl _) hT hw) hd rfl ⟨5, _, _, mk_at (hT.at 0 rfl), rfl, rfl, fun _ => rfl⟩ ⟨rfl, by decide, by decide, by show _ = some 1; decide +kernel⟩ hw8 ⟨hdd, by decide⟩ jcc0 (fun r9 g9 h9 => by obtain ⟨V9, rfl, r, rfl, h⟩ := h9; exact kk r V9 h) jNo.x
theorem uL_297 {G : jG} {l : Launch} {M : jM} {d c n pc : Nat} {lv : List (Nat × Value)} {rest : List Value} {post : Option Value → List jC → Prop} {xp : String → List jC → Prop} (hM : M.1.cls = RL) (htr : l.stackTraces = false) {sh : List jH} {V : Nat → Nat → Int32} {R : Nat → Nat → Option Nat} {x : Nat} (hT : jReg shX1 sh x) {a2 : Int32} {a3 : Int32} {a4 : Int32} {a5 : Nat} {c1 n1 cq nq : Nat} {Q : Int32 → List jH → (Nat → Nat → Int32) → (Nat → Nat → Option Nat) → Prop} (hd : decode M.2.1 pc = .ok (.invokestatic 297, 3)) (hdd : 47 + 1 ≤ d) (hw8 : (rest.map fun v => v.category).sum ≤ 8) (hw : wX0_ahead x sh V R c1 n1 a2 a3 a4 a5 Q) (hcc : c1 + c ≤ cq ∧ n1 + n ≤ nq) (kk : ∀ r sh' V' R', Q r sh' V' R' → J G l M d c n (pc + 3) lv (.int r :: rest) (mk sh' V' R') post xp) : J G l M d cq nq pc lv (.ref a5 :: .int a4 :: .int a3 :: .int a2 :: .ref x :: rest) (mk sh V R) post xp := by
  exact J.callSX (As := [.ref x, .int a2, .int a3, .int a4, .ref a5]) (hcw := by rw [hM]; exact lw_SW q2079 q2080 q143 q2081) (mX0_ahead htr (Nat.le_refl _) hT hw) hd rfl ⟨by decide, by decide, by show _ = some 5; decide +kernel⟩ hw8 ⟨hdd, by decide⟩ hcc (fun r9 g9 h9 => by obtain ⟨s9, V9, R9, rfl, r, rfl, h⟩ := h9; exact kk r s9 V9 R9 h) jNo.x
theorem uL_299 {G : jG} {l : Launch} {M : jM} {d c n pc : Nat} {lv : List (Nat × Value)} {rest : List Value} {post : Option Value → List jC → Prop} {xp : String → List jC → Prop} (hM : M.1.cls = RL) (htr : l.stackTraces = false) {sh : List jH} {V : Nat → Nat → Int32} {R : Nat → Nat → Option Nat} {t : Nat} (hT : jReg shX6 sh t) {a1 : Int32} {a2 : Int32} {a3 : Int32} {Q : Int32 → (Nat → Nat → Int32) → Prop} (hd : decode M.2.1 pc = .ok (.invokevirtual 299, 3)) (hdd : 74 + 1 ≤ d) (hw8 : (rest.map fun v => v.category).sum ≤ 8) (hw : wX6_ahead t sh R V a1 a2 a3 Q) (kk : ∀ r V', Q r V' → J G l M d c n (pc + 3) lv (.int r :: rest) (mk sh V' R) post xp) : J G l M d c n pc lv (.int a3 :: .int a2 :: .int a1 :: .ref t :: rest) (mk sh V R) post xp := by
  exact J.callV (As := [.int a1, .int a2, .int a3]) (hcw := by rw [hM]; exact lw_V q2739 q2740 q2741 q152 q2742) (mX6_ahead htr (Nat.le_refl _) hT hw) hd rfl ⟨5, _, _, mk_at (hT.at 0 rfl), rfl, rfl, fun _ => rfl⟩ ⟨rfl, by decide, by decide, by show _ = some 3; decide +kernel⟩ hw8 ⟨hdd, by decide⟩ jcc0 (fun r9 g9 h9 => by obtain ⟨V9, rfl, r, rfl, h⟩ := h9; exact kk r V9 h) jNo.x
theorem uL_300 {G : jG} {l : Launch} {M : jM} {d c n pc : Nat} {lv : List (Nat × Value)} {rest : List Value} {post : Option Value → List jC → Prop} {xp : String → List jC → Prop} (hM : M.1.cls = RL) (htr : l.stackTraces = false) {sh : List jH} {V : Nat → Nat → Int32} {R : Nat → Nat → Option Nat} {x : Nat} (hT : jReg shX1 sh x) {a2 : Int32} {a3 : Int32} {a4 : Nat} {c1 n1 cq nq : Nat} {Q : Int32 → List jH → (Nat → Nat → Int32) → (Nat → Nat → Option Nat) → Prop} (hd : decode M.2.1 pc = .ok (.invokestatic 300, 3)) (hdd : 47 + 1 ≤ d) (hw8 : (rest.map fun v => v.category).sum ≤ 8) (hw : wX0_trial x sh V R c1 n1 a2 a3 a4 Q) (hcc : c1 + c ≤ cq ∧ n1 + n ≤ nq) (kk : ∀ r sh' V' R', Q r sh' V' R' → J G l M d c n (pc + 3) lv (.int r :: rest) (mk sh' V' R') post xp) : J G l M d cq nq pc lv (.ref a4 :: .int a3 :: .int a2 :: .ref x :: rest) (mk sh V R) post xp := by
  exact J.callSX (As := [.ref x, .int a2, .int a3, .ref a4]) (hcw := by rw [hM]; exact lw_SW q2086 q2087 q143 q2088) (mX0_trial htr (Nat.le_refl _) hT hw) hd rfl ⟨by decide, by decide, by show _ = some 4; decide +kernel⟩ hw8 ⟨hdd, by decide⟩ hcc (fun r9 g9 h9 => by obtain ⟨s9, V9, R9, rfl, r, rfl, h⟩ := h9; exact kk r s9 V9 R9 h) jNo.x
theorem uL_303 {G : jG} {l : Launch} {M : jM} {d c n pc : Nat} {lv : List (Nat × Value)} {rest : List Value} {post : Option Value → List jC → Prop} {xp : String → List jC → Prop} (hM : M.1.cls = RL) (htr : l.stackTraces = false) {sh : List jH} {V : Nat → Nat → Int32} {R : Nat → Nat → Option Nat} {t : Nat} (hT : jReg shX6 sh t) {a1 : Int32} {a2 : Int32} {Q : Int32 → (Nat → Nat → Int32) → Prop} (hd : decode M.2.1 pc = .ok (.invokevirtual 303, 3)) (hdd : 74 + 1 ≤ d) (hw8 : (rest.map fun v => v.category).sum ≤ 8) (hw : wX6_trial t sh R V a1 a2 Q) (kk : ∀ r V', Q r V' → J G l M d c n (pc + 3) lv (.int r :: rest) (mk sh V' R) post xp) : J G l M d c n pc lv (.int a2 :: .int a1 :: .ref t :: rest) (mk sh V R) post xp := by
  exact J.callV (As := [.int a1, .int a2]) (hcw := by rw [hM]; exact lw_V q2743 q2744 q2745 q152 q2746) (mX6_trial htr (Nat.le_refl _) hT hw) hd rfl ⟨5, _, _, mk_at (hT.at 0 rfl), rfl, rfl, fun _ => rfl⟩ ⟨rfl, by decide, by decide, by show _ = some 2; decide +kernel⟩ hw8 ⟨hdd, by decide⟩ jcc0 (fun r9 g9 h9 => by obtain ⟨V9, rfl, r, rfl, h⟩ := h9; exact kk r V9 h) jNo.x
theorem uL_304 {G : jG} {l : Launch} {M : jM} {d c n pc : Nat} {lv : List (Nat × Value)} {rest : List Value} {post : Option Value → List jC → Prop} {xp : String → List jC → Prop} (hM : M.1.cls = RL) (htr : l.stackTraces = false) {sh : List jH} {V : Nat → Nat → Int32} {R : Nat → Nat → Option Nat} {x : Nat} (hT : jReg shX1 sh x) {a2 : Int32} {a3 : Int32} {a4 : Nat} {c1 n1 cq nq : Nat} {Q : Int32 → List jH → (Nat → Nat → Int32) → (Nat → Nat → Option Nat) → Prop} (hd : decode M.2.1 pc = .ok (.invokestatic 304, 3)) (hdd : 47 + 1 ≤ d) (hw8 : (rest.map fun v => v.category).sum ≤ 8) (hw : wX0_span x sh V R c1 n1 a2 a3 a4 Q) (hcc : c1 + c ≤ cq ∧ n1 + n ≤ nq) (kk : ∀ r sh' V' R', Q r sh' V' R' → J G l M d c n (pc + 3) lv (.int r :: rest) (mk sh' V' R') post xp) : J G l M d cq nq pc lv (.ref a4 :: .int a3 :: .int a2 :: .ref x :: rest) (mk sh V R) post xp := by
  exact J.callSX (As := [.ref x, .int a2, .int a3, .ref a4]) (hcw := by rw [hM]; exact lw_SW q2097 q2098 q143 q2099) (mX0_span htr (Nat.le_refl _) hT hw) hd rfl ⟨by decide, by decide, by show _ = some 4; decide +kernel⟩ hw8 ⟨hdd, by decide⟩ hcc (fun r9 g9 h9 => by obtain ⟨s9, V9, R9, rfl, r, rfl, h⟩ := h9; exact kk r s9 V9 R9 h) jNo.x
theorem uL_306 {G : jG} {l : Launch} {M : jM} {d c n pc : Nat} {lv : List (Nat × Value)} {rest : List Value} {post : Option Value → List jC → Prop} {xp : String → List jC → Prop} (hM : M.1.cls = RL) (htr : l.stackTraces = false) {sh : List jH} {V : Nat → Nat → Int32} {R : Nat → Nat → Option Nat} {t : Nat} (hT : jReg shX6 sh t) {a1 : Int32} {a2 : Int32} {Q : Int32 → (Nat → Nat → Int32) → Prop} (hd : decode M.2.1 pc = .ok (.invokevirtual 306, 3)) (hdd : 74 + 1 ≤ d) (hw8 : (rest.map fun v => v.category).sum ≤ 8) (hw : wX6_span t sh R V a1 a2 Q) (kk : ∀ r V', Q r V' → J G l M d c n (pc + 3) lv (.int r :: rest) (mk sh V' R) post xp) : J G l M d c n pc lv (.int a2 :: .int a1 :: .ref t :: rest) (mk sh V R) post xp := by
  exact J.callV (As := [.int a1, .int a2]) (hcw := by rw [hM]; exact lw_V q2747 q2748 q2749 q152 q2750) (mX6_span htr (Nat.le_refl _) hT hw) hd rfl ⟨5, _, _, mk_at (hT.at 0 rfl), rfl, rfl, fun _ => rfl⟩ ⟨rfl, by decide, by decide, by show _ = some 2; decide +kernel⟩ hw8 ⟨hdd, by decide⟩ jcc0 (fun r9 g9 h9 => by obtain ⟨V9, rfl, r, rfl, h⟩ := h9; exact kk r V9 h) jNo.x
theorem uL_307 {G : jG} {l : Launch} {M : jM} {d c n pc : Nat} {lv : List (Nat × Value)} {rest : List Value} {post : Option Value → List jC → Prop} {xp : String → List jC → Prop} (hM : M.1.cls = RL) (htr : l.stackTraces = false) {sh : List jH} {V : Nat → Nat → Int32} {R : Nat → Nat → Option Nat} {x : Nat} (hT : jReg shX1 sh x) {a2 : Int32} {a3 : Int32} {a4 : Nat} {c1 n1 cq nq : Nat} {Q : Int32 → List jH → (Nat → Nat → Int32) → (Nat → Nat → Option Nat) → Prop} (hd : decode M.2.1 pc = .ok (.invokestatic 307, 3)) (hdd : 11 + 1 ≤ d) (hw8 : (rest.map fun v => v.category).sum ≤ 8) (hw : wX0_led x sh V R c1 n1 a2 a3 a4 Q) (hcc : c1 + c ≤ cq ∧ n1 + n ≤ nq) (kk : ∀ r sh' V' R', Q r sh' V' R' → J G l M d c n (pc + 3) lv (.int r :: rest) (mk sh' V' R') post xp) : J G l M d cq nq pc lv (.ref a4 :: .int a3 :: .int a2 :: .ref x :: rest) (mk sh V R) post xp := by
  exact J.callSX (As := [.ref x, .int a2, .int a3, .ref a4]) (hcw := by rw [hM]; exact lw_SW q2104 q2105 q143 q2106) (mX0_led htr (Nat.le_refl _) hT hw) hd rfl ⟨by decide, by decide, by show _ = some 4; decide +kernel⟩ hw8 ⟨hdd, by decide⟩ hcc (fun r9 g9 h9 => by obtain ⟨s9, V9, R9, rfl, r, rfl, h⟩ := h9; exact kk r s9 V9 R9 h) jNo.x
theorem uL_309 {G : jG} {l : Launch} {M : jM} {d c n pc : Nat} {lv : List (Nat × Value)} {rest : List Value} {post : Option Value → List jC → Prop} {xp : String → List jC → Prop} (hM : M.1.cls = RL) (htr : l.stackTraces = false) {sh : List jH} {V : Nat → Nat → Int32} {R : Nat → Nat → Option Nat} {t : Nat} (hT : jReg shX6 sh t) {a1 : Int32} {a2 : Int32} {Q : Int32 → (Nat → Nat → Int32) → Prop} (hd : decode M.2.1 pc = .ok (.invokevirtual 309, 3)) (hdd : 2 + 1 ≤ d) (hw8 : (rest.map fun v => v.category).sum ≤ 8) (hw : wX6_led t V a1 a2 Q) (kk : ∀ r V', Q r V' → J G l M d c n (pc + 3) lv (.int r :: rest) (mk sh V' R) post xp) : J G l M d c n pc lv (.int a2 :: .int a1 :: .ref t :: rest) (mk sh V R) post xp := by
  exact J.callV (As := [.int a1, .int a2]) (hcw := by rw [hM]; exact lw_V q2751 q2752 q2753 q152 q2754) (mX6_led htr hT hw) hd rfl ⟨5, _, _, mk_at (hT.at 0 rfl), rfl, rfl, fun _ => rfl⟩ ⟨rfl, by decide, by decide, by show _ = some 2; decide +kernel⟩ hw8 ⟨hdd, by decide⟩ jcc0 (fun r9 g9 h9 => by obtain ⟨V9, rfl, r, rfl, h⟩ := h9; exact kk r V9 h) jNo.x
theorem uL_310 {G : jG} {l : Launch} {M : jM} {d c n pc : Nat} {lv : List (Nat × Value)} {rest : List Value} {post : Option Value → List jC → Prop} {xp : String → List jC → Prop} (hM : M.1.cls = RL) (htr : l.stackTraces = false) {sh : List jH} {V : Nat → Nat → Int32} {R : Nat → Nat → Option Nat} {x : Nat} (hT : jReg shX1 sh x) {a2 : Int32} {a3 : Int32} {a4 : Nat} {c1 n1 cq nq : Nat} {Q : Int32 → List jH → (Nat → Nat → Int32) → (Nat → Nat → Option Nat) → Prop} (hd : decode M.2.1 pc = .ok (.invokestatic 310, 3)) (hdd : 10 + 1 ≤ d) (hw8 : (rest.map fun v => v.category).sum ≤ 8) (hw : wX0_log x sh V R c1 n1 a2 a3 a4 Q) (hcc : c1 + c ≤ cq ∧ n1 + n ≤ nq) (kk : ∀ r sh' V' R', Q r sh' V' R' → J G l M d c n (pc + 3) lv (.int r :: rest) (mk sh' V' R') post xp) : J G l M d cq nq pc lv (.ref a4 :: .int a3 :: .int a2 :: .ref x :: rest) (mk sh V R) post xp := by
  exact J.callSX (As := [.ref x, .int a2, .int a3, .ref a4]) (hcw := by rw [hM]; exact lw_SW q2115 q2116 q143 q2117) (mX0_log htr (Nat.le_refl _) hT hw) hd rfl ⟨by decide, by decide, by show _ = some 4; decide +kernel⟩ hw8 ⟨hdd, by decide⟩ hcc (fun r9 g9 h9 => by obtain ⟨s9, V9, R9, rfl, r, rfl, h⟩ := h9; exact kk r s9 V9 R9 h) jNo.x
theorem uL_312 {G : jG} {l : Launch} {M : jM} {d c n pc : Nat} {lv : List (Nat × Value)} {rest : List Value} {post : Option Value → List jC → Prop} {xp : String → List jC → Prop} (hM : M.1.cls = RL) (htr : l.stackTraces = false) {sh : List jH} {V : Nat → Nat → Int32} {R : Nat → Nat → Option Nat} {t : Nat} (hT : jReg shX6 sh t) {a1 : Int32} {a2 : Int32} {Q : Int32 → (Nat → Nat → Int32) → Prop} (hd : decode M.2.1 pc = .ok (.invokevirtual 312, 3)) (hdd : 1 + 1 ≤ d) (hw8 : (rest.map fun v => v.category).sum ≤ 8) (hw : wX6_log t V a1 a2 Q) (kk : ∀ r V', Q r V' → J G l M d c n (pc + 3) lv (.int r :: rest) (mk sh V' R) post xp) : J G l M d c n pc lv (.int a2 :: .int a1 :: .ref t :: rest) (mk sh V R) post xp := by
  exact J.callV (As := [.int a1, .int a2]) (hcw := by rw [hM]; exact lw_V q2759 q2760 q2761 q152 q2762) (mX6_log htr hT hw) hd rfl ⟨5, _, _, mk_at (hT.at 0 rfl), rfl, rfl, fun _ => rfl⟩ ⟨rfl, by decide, by decide, by show _ = some 2; decide +kernel⟩ hw8 ⟨hdd, by decide⟩ jcc0 (fun r9 g9 h9 => by obtain ⟨V9, rfl, r, rfl, h⟩ := h9; exact kk r V9 h) jNo.x
theorem uL_313 {G : jG} {l : Launch} {M : jM} {d c n pc : Nat} {lv : List (Nat × Value)} {rest : List Value} {post : Option Value → List jC → Prop} {xp : String → List jC → Prop} (hM : M.1.cls = RL) (htr : l.stackTraces = false) {sh : List jH} {V : Nat → Nat → Int32} {R : Nat → Nat → Option Nat} {x : Nat} (hT : jReg shX1 sh x) {a1 : Int32} {Q : Int32 → (Nat → Nat → Int32) → Prop} (hd : decode M.2.1 pc = .ok (.invokevirtual 313, 3)) (hdd : 0 + 1 ≤ d) (hw8 : (rest.map fun v => v.category).sum ≤ 8) (hw : wX1_seed x V a1 Q) (kk : ∀ r V', Q r V' → J G l M d c n (pc + 3) lv (.int r :: rest) (mk sh V' R) post xp) : J G l M d c n pc lv (.int a1 :: .ref x :: rest) (mk sh V R) post xp := by
  exact J.callV (As := [.int a1]) (hcw := by rw [hM]; exact lw_V q750 q751 q752 q144 q753) (mX1_seed htr hT hw) hd rfl ⟨0, _, _, mk_at (hT.at 0 rfl), rfl, rfl, fun _ => rfl⟩ ⟨rfl, by decide, by decide, by show _ = some 1; decide +kernel⟩ hw8 ⟨hdd, by decide⟩ jcc0 (fun r9 g9 h9 => by obtain ⟨V9, rfl, r, rfl, h⟩ := h9; exact kk r V9 h) jNo.x
theorem uL_316 {G : jG} {l : Launch} {M : jM} {d c n pc : Nat} {lv : List (Nat × Value)} {rest : List Value} {post : Option Value → List jC → Prop} {xp : String → List jC → Prop} (hM : M.1.cls = RL) (htr : l.stackTraces = false) {sh : List jH} {V : Nat → Nat → Int32} {R : Nat → Nat → Option Nat} {t : Nat} (hT : jReg shX6 sh t) {a1 : Int32} {Q : Int32 → (Nat → Nat → Int32) → Prop} (hd : decode M.2.1 pc = .ok (.invokevirtual 316, 3)) (hdd : 0 + 1 ≤ d) (hw8 : (rest.map fun v => v.category).sum ≤ 8) (hw : wX6_seed t V a1 Q) (kk : ∀ r V', Q r V' → J G l M d c n (pc + 3) lv (.int r :: rest) (mk sh V' R) post xp) : J G l M d c n pc lv (.int a1 :: .ref t :: rest) (mk sh V R) post xp := by
  exact J.callV (As := [.int a1]) (hcw := by rw [hM]; exact lw_V q2763 q2764 q2765 q152 q2766) (mX6_seed htr hT hw) hd rfl ⟨5, _, _, mk_at (hT.at 0 rfl), rfl, rfl, fun _ => rfl⟩ ⟨rfl, by decide, by decide, by show _ = some 1; decide +kernel⟩ hw8 ⟨hdd, by decide⟩ jcc0 (fun r9 g9 h9 => by obtain ⟨V9, rfl, r, rfl, h⟩ := h9; exact kk r V9 h) jNo.x
theorem uL_317 {G : jG} {l : Launch} {M : jM} {d c n pc : Nat} {lv : List (Nat × Value)} {rest : List Value} {post : Option Value → List jC → Prop} {xp : String → List jC → Prop} (hM : M.1.cls = RL) (htr : l.stackTraces = false) {sh : List jH} {V : Nat → Nat → Int32} {R : Nat → Nat → Option Nat} {x : Nat} (hT : jReg shX1 sh x) {c1 n1 cq nq : Nat} {Q : Int32 → List jH → (Nat → Nat → Int32) → (Nat → Nat → Option Nat) → Prop} (hd : decode M.2.1 pc = .ok (.invokevirtual 317, 3)) (hdd : 5 + 1 ≤ d) (hw8 : (rest.map fun v => v.category).sum ≤ 8) (hw : wX1_undo x sh V R c1 n1 Q) (hcc : c1 + c ≤ cq ∧ n1 + n ≤ nq) (kk : ∀ r sh' V' R', Q r sh' V' R' → J G l M d c n (pc + 3) lv (.int r :: rest) (mk sh' V' R') post xp) : J G l M d cq nq pc lv (.ref x :: rest) (mk sh V R) post xp := by
  exact J.callV (As := []) (hcw := by rw [hM]; exact lw_V q754 q755 q756 q144 q757) (mX1_undo htr (Nat.le_refl _) hT hw) hd rfl ⟨0, _, _, mk_at (hT.at 0 rfl), rfl, rfl, fun _ => rfl⟩ ⟨rfl, by decide, by decide, by show _ = some 0; decide +kernel⟩ hw8 ⟨hdd, by decide⟩ hcc (fun r9 g9 h9 => by obtain ⟨s9, V9, R9, rfl, r, rfl, h⟩ := h9; exact kk r s9 V9 R9 h) jNo.x
theorem uL_321 {G : jG} {l : Launch} {M : jM} {d c n pc : Nat} {lv : List (Nat × Value)} {rest : List Value} {post : Option Value → List jC → Prop} {xp : String → List jC → Prop} (hM : M.1.cls = RL) (htr : l.stackTraces = false) {sh : List jH} {V : Nat → Nat → Int32} {R : Nat → Nat → Option Nat} {t : Nat} (hT : jReg shX6 sh t) {Q : Int32 → (Nat → Nat → Int32) → Prop} (hd : decode M.2.1 pc = .ok (.invokevirtual 321, 3)) (hdd : 0 + 1 ≤ d) (hw8 : (rest.map fun v => v.category).sum ≤ 8) (hw : wX6_undo t V Q) (kk : ∀ r V', Q r V' → J G l M d c n (pc + 3) lv (.int r :: rest) (mk sh V' R) post xp) : J G l M d c n pc lv (.ref t :: rest) (mk sh V R) post xp := by
  exact J.callV (As := []) (hcw := by rw [hM]; exact lw_V q2767 q2768 q2769 q152 q2770) (mX6_undo htr hT hw) hd rfl ⟨5, _, _, mk_at (hT.at 0 rfl), rfl, rfl, fun _ => rfl⟩ ⟨rfl, by decide, by decide, by show _ = some 0; decide +kernel⟩ hw8 ⟨hdd, by decide⟩ jcc0 (fun r9 g9 h9 => by obtain ⟨V9, rfl, r, rfl, h⟩ := h9; exact kk r V9 h) jNo.x
theorem uL_322 {G : jG} {l : Launch} {M : jM} {d c n pc : Nat} {lv : List (Nat × Value)} {rest : List Value} {post : Option Value → List jC → Prop} {xp : String → List jC → Prop} (hM : M.1.cls = RL) (htr : l.stackTraces = false) {sh : List jH} {V : Nat → Nat → Int32} {R : Nat → Nat → Option Nat} {x : Nat} (hT : jReg shX1 sh x) {Q : (Nat → Nat → Int32) → (Nat → Nat → Option Nat) → Prop} (hd : decode M.2.1 pc = .ok (.invokevirtual 322, 3)) (hdd : 5 + 1 ≤ d) (hw8 : (rest.map fun v => v.category).sum ≤ 8) (hw : wX1_image x sh V R Q) (kk : ∀ V' R', Q V' R' → J G l M d c n (pc + 3) lv rest (mk sh V' R') post xp) : J G l M d c n pc lv (.ref x :: rest) (mk sh V R) post xp := by
  exact J.callV (As := []) (hcw := by rw [hM]; exact lw_V q780 q781 q782 q144 q783) (mX1_image htr (Nat.le_refl _) hT hw) hd rfl ⟨0, _, _, mk_at (hT.at 0 rfl), rfl, rfl, fun _ => rfl⟩ ⟨rfl, by decide, by decide, by show _ = some 0; decide +kernel⟩ hw8 ⟨hdd, by decide⟩ jcc0 (fun r9 g9 h9 => by obtain ⟨V9, R9, rfl, rfl, h⟩ := h9; exact kk V9 R9 h) jNo.x
theorem uL_325 {G : jG} {l : Launch} {M : jM} {d c n pc : Nat} {lv : List (Nat × Value)} {rest : List Value} {post : Option Value → List jC → Prop} {xp : String → List jC → Prop} (hM : M.1.cls = RL) (htr : l.stackTraces = false) {sh : List jH} {V : Nat → Nat → Int32} {R : Nat → Nat → Option Nat} {t : Nat} (hT : jReg shX6 sh t) {Q : (Nat → Nat → Int32) → Prop} (hd : decode M.2.1 pc = .ok (.invokevirtual 325, 3)) (hdd : 0 + 1 ≤ d) (hw8 : (rest.map fun v => v.category).sum ≤ 8) (hw : wX6_image t V Q) (kk : ∀ V', Q V' → J G l M d c n (pc + 3) lv rest (mk sh V' R) post xp) : J G l M d c n pc lv (.ref t :: rest) (mk sh V R) post xp := by
  exact J.callV (As := []) (hcw := by rw [hM]; exact lw_V q2771 q2772 q2773 q152 q2774) (mX6_image htr hT hw) hd rfl ⟨5, _, _, mk_at (hT.at 0 rfl), rfl, rfl, fun _ => rfl⟩ ⟨rfl, by decide, by decide, by show _ = some 0; decide +kernel⟩ hw8 ⟨hdd, by decide⟩ jcc0 (fun r9 g9 h9 => by obtain ⟨V9, rfl, rfl, h⟩ := h9; exact kk V9 h) jNo.x
theorem uL_326 {G : jG} {l : Launch} {M : jM} {d c n pc : Nat} {lv : List (Nat × Value)} {rest : List Value} {post : Option Value → List jC → Prop} {xp : String → List jC → Prop} (hM : M.1.cls = RL) (htr : l.stackTraces = false) {sh : List jH} {V : Nat → Nat → Int32} {R : Nat → Nat → Option Nat} {x : Nat} (hT : jReg shX1 sh x) {c1 n1 cq nq : Nat} {Q : Int32 → List jH → (Nat → Nat → Int32) → (Nat → Nat → Option Nat) → Prop} (hd : decode M.2.1 pc = .ok (.invokevirtual 326, 3)) (hdd : 5 + 1 ≤ d) (hw8 : (rest.map fun v => v.category).sum ≤ 8) (hw : wX1_back x sh V R c1 n1 Q) (hcc : c1 + c ≤ cq ∧ n1 + n ≤ nq) (kk : ∀ r sh' V' R', Q r sh' V' R' → J G l M d c n (pc + 3) lv (.int r :: rest) (mk sh' V' R') post xp) : J G l M d cq nq pc lv (.ref x :: rest) (mk sh V R) post xp := by
  exact J.callV (As := []) (hcw := by rw [hM]; exact lw_V q784 q785 q786 q144 q787) (mX1_back htr (Nat.le_refl _) hT hw) hd rfl ⟨0, _, _, mk_at (hT.at 0 rfl), rfl, rfl, fun _ => rfl⟩ ⟨rfl, by decide, by decide, by show _ = some 0; decide +kernel⟩ hw8 ⟨hdd, by decide⟩ hcc (fun r9 g9 h9 => by obtain ⟨s9, V9, R9, rfl, r, rfl, h⟩ := h9; exact kk r s9 V9 R9 h) jNo.x
theorem uL_329 {G : jG} {l : Launch} {M : jM} {d c n pc : Nat} {lv : List (Nat × Value)} {rest : List Value} {post : Option Value → List jC → Prop} {xp : String → List jC → Prop} (hM : M.1.cls = RL) (htr : l.stackTraces = false) {sh : List jH} {V : Nat → Nat → Int32} {R : Nat → Nat → Option Nat} {t : Nat} (hT : jReg shX6 sh t) {Q : Int32 → (Nat → Nat → Int32) → Prop} (hd : decode M.2.1 pc = .ok (.invokevirtual 329, 3)) (hdd : 0 + 1 ≤ d) (hw8 : (rest.map fun v => v.category).sum ≤ 8) (hw : wX6_back t V Q) (kk : ∀ r V', Q r V' → J G l M d c n (pc + 3) lv (.int r :: rest) (mk sh V' R) post xp) : J G l M d c n pc lv (.ref t :: rest) (mk sh V R) post xp := by
  exact J.callV (As := []) (hcw := by rw [hM]; exact lw_V q2775 q2776 q2777 q152 q2778) (mX6_back htr hT hw) hd rfl ⟨5, _, _, mk_at (hT.at 0 rfl), rfl, rfl, fun _ => rfl⟩ ⟨rfl, by decide, by decide, by show _ = some 0; decide +kernel⟩ hw8 ⟨hdd, by decide⟩ jcc0 (fun r9 g9 h9 => by obtain ⟨V9, rfl, r, rfl, h⟩ := h9; exact kk r V9 h) jNo.x
theorem uL_330 {G : jG} {l : Launch} {M : jM} {d c n pc : Nat} {lv : List (Nat × Value)} {rest : List Value} {post : Option Value → List jC → Prop} {xp : String → List jC → Prop} (hM : M.1.cls = RL) (htr : l.stackTraces = false) {sh : List jH} {V : Nat → Nat → Int32} {R : Nat → Nat → Option Nat} {x : Nat} (hT : jReg shX1 sh x) {a1 : Int32} {Q : Int32 → Prop} (hd : decode M.2.1 pc = .ok (.invokevirtual 330, 3)) (hdd : 1 + 1 ≤ d) (hw8 : (rest.map fun v => v.category).sum ≤ 8) (hw : wX1_count x sh V R a1 Q) (kk : ∀ r, Q r → J G l M d c n (pc + 3) lv (.int r :: rest) (mk sh V R) post xp) : J G l M d c n pc lv (.int a1 :: .ref x :: rest) (mk sh V R) post xp := by
  exact J.callV (As := [.int a1]) (hcw := by rw [hM]; exact lw_V q792 q793 q794 q144 q795) (mX1_count htr (Nat.le_refl _) hT hw) hd rfl ⟨0, _, _, mk_at (hT.at 0 rfl), rfl, rfl, fun _ => rfl⟩ ⟨rfl, by decide, by decide, by show _ = some 1; decide +kernel⟩ hw8 ⟨hdd, by decide⟩ jcc0 (fun r9 g9 h9 => by obtain ⟨rfl, r, rfl, h⟩ := h9; exact kk r h) jNo.x
theorem uL_333 {G : jG} {l : Launch} {M : jM} {d c n pc : Nat} {lv : List (Nat × Value)} {rest : List Value} {post : Option Value → List jC → Prop} {xp : String → List jC → Prop} (hM : M.1.cls = RL) (htr : l.stackTraces = false) {sh : List jH} {V : Nat → Nat → Int32} {R : Nat → Nat → Option Nat} {t : Nat} (hT : jReg shX6 sh t) {a1 : Int32} {Q : Int32 → (Nat → Nat → Int32) → Prop} (hd : decode M.2.1 pc = .ok (.invokevirtual 333, 3)) (hdd : 2 + 1 ≤ d) (hw8 : (rest.map fun v => v.category).sum ≤ 8) (hw : wX6_count t V a1 Q) (kk : ∀ r V', Q r V' → J G l M d c n (pc + 3) lv (.int r :: rest) (mk sh V' R) post xp) : J G l M d c n pc lv (.int a1 :: .ref t :: rest) (mk sh V R) post xp := by
  exact J.callV (As := [.int a1]) (hcw := by rw [hM]; exact lw_V q2779 q2780 q2781 q152 q2782) (mX6_count htr hT hw) hd rfl ⟨5, _, _, mk_at (hT.at 0 rfl), rfl, rfl, fun _ => rfl⟩ ⟨rfl, by decide, by decide, by show _ = some 1; decide +kernel⟩ hw8 ⟨hdd, by decide⟩ jcc0 (fun r9 g9 h9 => by obtain ⟨V9, rfl, r, rfl, h⟩ := h9; exact kk r V9 h) jNo.x
-- VisitingHoursLaw.law([I)Z
def wL_law_268 (G : jG) (Q : Int32 → List jH → (Nat → Nat → Int32) → (Nat → Nat → Option Nat) → Prop) (K23 : List jH → (Nat → Nat → Int32) → (Nat → Nat → Option Nat) → Nat → Nat → Nat → Nat → Nat → Int32 → Prop) (sh : List jH) (V : Nat → Nat → Int32) (R : Nat → Nat → Option Nat) (c : Nat) (n : Nat) (x1 : Nat) (x2 : Nat) (x3 : Nat) (x4 : Int32) : Prop :=
  (vp_in (x4 + (1 : Int32)) (jScN G) ∧ (vp_in (x4 + (2 : Int32)) (jScN G) ∧ (vp_in (x4 + (3 : Int32)) (jScN G) ∧ (vp_in (x4 + (4 : Int32)) (jScN G) ∧ (vp_in (x4 + (5 : Int32)) (jScN G) ∧ (jReg shX1 sh x1 ∧ (∃ c1299 n1299 c2299 n2299 : Nat, c1299 + c2299 ≤ c ∧ n1299 + n2299 ≤ n ∧ (wX1_feed x1 sh V R c1299 n1299 (jScF G (x4 + (1 : Int32)).toNatClampNeg) (jScF G (x4 + (2 : Int32)).toNatClampNeg) (jScF G (x4 + (3 : Int32)).toNatClampNeg) (jScF G (x4 + (4 : Int32)).toNatClampNeg) (jScF G (x4 + (5 : Int32)).toNatClampNeg) (fun r299 sh299 V299 R299 => (vp_in (x4 + (1 : Int32)) (jScN G) ∧ (vp_in (x4 + (2 : Int32)) (jScN G) ∧ (vp_in (x4 + (3 : Int32)) (jScN G) ∧ (vp_in (x4 + (4 : Int32)) (jScN G) ∧ (vp_in (x4 + (5 : Int32)) (jScN G) ∧ (jReg shX6 sh299 x2 ∧ (wX6_feed x2 V299 (jScF G (x4 + (1 : Int32)).toNatClampNeg) (jScF G (x4 + (2 : Int32)).toNatClampNeg) (jScF G (x4 + (3 : Int32)).toNatClampNeg) (jScF G (x4 + (4 : Int32)).toNatClampNeg) (jScF G (x4 + (5 : Int32)).toNatClampNeg) (fun r333 V333 => ((r299 = r333 → (∀ y3184 : Int32, y3184 = x4 + (6 : Int32) → K23 sh299 V333 R299 c2299 n2299 x1 x2 x3 y3184)) ∧ (¬ r299 = r333 → Q (0 : Int32) sh299 V333 R299)))))))))))))))))))
theorem rL_law_268 {G : jG} {l : Launch} {d : Nat} (htr : l.stackTraces = false) (hdd : 107 ≤ d) {Q : Int32 → List jH → (Nat → Nat → Int32) → (Nat → Nat → Option Nat) → Prop} {K23 : List jH → (Nat → Nat → Int32) → (Nat → Nat → Option Nat) → Nat → Nat → Nat → Nat → Nat → Int32 → Prop} (hK23 : ∀ (sh : List jH) (V : Nat → Nat → Int32) (R : Nat → Nat → Option Nat) (c : Nat) (n : Nat) (x1 : Nat) (x2 : Nat) (x3 : Nat) (x4 : Int32), K23 sh V R c n x1 x2 x3 x4 → J G l ML_law d c n 23 [(0, .ref 69), (1, .ref x1), (2, .ref x2), (3, .ref x3), (4, .int x4)] [] (mk sh V R) (jSr Q) jNo) {sh : List jH} {V : Nat → Nat → Int32} {R : Nat → Nat → Option Nat} {c : Nat} {n : Nat} {x1 : Nat} {x2 : Nat} {x3 : Nat} {x4 : Int32} (hw : wL_law_268 G Q K23 sh V R c n x1 x2 x3 x4) : J G l ML_law d c n 268 [(0, .ref 69), (1, .ref x1), (2, .ref x2), (3, .ref x3), (4, .int x4)] [] (mk sh V R) (jSr Q) jNo := by
  unfold wL_law_268 at hw
  refine J.aload_n 1 dL_law_268 rfl ?_
  refine J.aload_n 0 dL_law_269 rfl ?_
  refine J.iload 4 dL_law_270 rfl ?_
  refine J.iconst (v := (1 : Int32)) dL_law_272 (by decide) ?_
  refine J.iadd dL_law_273 ?_
  obtain ⟨h274, hw⟩ := hw
  refine J.sld dL_law_274 h274 ?_
  refine J.aload_n 0 dL_law_275 rfl ?_
  refine J.iload 4 dL_law_276 rfl ?_
  refine J.iconst (v := (2 : Int32)) dL_law_278 (by decide) ?_
  refine J.iadd dL_law_279 ?_
  obtain ⟨h280, hw⟩ := hw
  refine J.sld dL_law_280 h280 ?_
  refine J.aload_n 0 dL_law_281 rfl ?_
  refine J.iload 4 dL_law_282 rfl ?_
  refine J.iconst (v := (3 : Int32)) dL_law_284 (by decide) ?_
  refine J.iadd dL_law_285 ?_
  obtain ⟨h286, hw⟩ := hw
  refine J.sld dL_law_286 h286 ?_
  refine J.aload_n 0 dL_law_287 rfl ?_
  refine J.iload 4 dL_law_288 rfl ?_
  refine J.iconst (v := (4 : Int32)) dL_law_290 (by decide) ?_
  refine J.iadd dL_law_291 ?_
  obtain ⟨h292, hw⟩ := hw
  refine J.sld dL_law_292 h292 ?_
  refine J.aload_n 0 dL_law_293 rfl ?_
  refine J.iload 4 dL_law_294 rfl ?_
  refine J.iconst (v := (5 : Int32)) dL_law_296 (by decide) ?_
  refine J.iadd dL_law_297 ?_
  obtain ⟨h298, hw⟩ := hw
  refine J.sld dL_law_298 h298 ?_
  obtain ⟨hq299_x1, hw⟩ := hw
  obtain ⟨c1299, n1299, c2299, n2299, hc299, hd299, hw⟩ := hw
  refine uL_143 rfl htr hq299_x1 dL_law_299 (by omega) (Nat.le_of_ble_eq_true rfl) hw ⟨hc299, hd299⟩ ?_
  clear hw
  intro r299 sh299 V299 R299 hw
  refine J.aload_n 2 dL_law_302 rfl ?_
  refine J.aload_n 0 dL_law_303 rfl ?_
  refine J.iload 4 dL_law_304 rfl ?_
  refine J.iconst (v := (1 : Int32)) dL_law_306 (by decide) ?_
  refine J.iadd dL_law_307 ?_
  obtain ⟨h308, hw⟩ := hw
  refine J.sld dL_law_308 h308 ?_
  refine J.aload_n 0 dL_law_309 rfl ?_
  refine J.iload 4 dL_law_310 rfl ?_
  refine J.iconst (v := (2 : Int32)) dL_law_312 (by decide) ?_
  refine J.iadd dL_law_313 ?_
  obtain ⟨h314, hw⟩ := hw
  refine J.sld dL_law_314 h314 ?_
  refine J.aload_n 0 dL_law_315 rfl ?_
  refine J.iload 4 dL_law_316 rfl ?_
  refine J.iconst (v := (3 : Int32)) dL_law_318 (by decide) ?_
  refine J.iadd dL_law_319 ?_
  obtain ⟨h320, hw⟩ := hw
  refine J.sld dL_law_320 h320 ?_
  refine J.aload_n 0 dL_law_321 rfl ?_
  refine J.iload 4 dL_law_322 rfl ?_
  refine J.iconst (v := (4 : Int32)) dL_law_324 (by decide) ?_
  refine J.iadd dL_law_325 ?_
  obtain ⟨h326, hw⟩ := hw
  refine J.sld dL_law_326 h326 ?_
  refine J.aload_n 0 dL_law_327 rfl ?_
  refine J.iload 4 dL_law_328 rfl ?_
  refine J.iconst (v := (5 : Int32)) dL_law_330 (by decide) ?_
  refine J.iadd dL_law_331 ?_
  obtain ⟨h332, hw⟩ := hw
  refine J.sld dL_law_332 h332 ?_
  obtain ⟨hq333_x2, hw⟩ := hw
  refine uL_147 rfl htr hq333_x2 dL_law_333 (by omega) (Nat.le_of_ble_eq_true rfl) hw ?_
  clear hw
  intro r333 V333 hw
  refine J.icmp_eq 3184 dL_law_336 (by decide) ⟨fun c336 => ?_, fun c336 => ?_⟩
  · obtain ⟨hw, -⟩ := hw
    specialize hw c336
    refine J.iincN 4 (K := (6 : Int32)) (lv' := fun y3184 => [(4, .int y3184), (0, .ref 69), (1, .ref x1), (2, .ref x2), (3, .ref x3)]) dL_law_3184 rfl (by decide) (by decide) (fun _ => rfl) hw ?_
    clear hw
    intro y3184 hw
    refine J.goto 23 dL_law_3187 (by decide) ?_
    exact J.pick [1, 2, 3, 4, 0] rfl (hK23 _ _ _ _ _ _ _ _ _ hw)
  · obtain ⟨-, hw⟩ := hw
    specialize hw c336
    refine J.iconst (v := (0 : Int32)) dL_law_339 (by decide) ?_
    exact J.zret rfl rfl dL_law_340 ⟨_, _, _, rfl, _, rfl, hw⟩
def wL_law_341 (G : jG) (Q : Int32 → List jH → (Nat → Nat → Int32) → (Nat → Nat → Option Nat) → Prop) (K23 : List jH → (Nat → Nat → Int32) → (Nat → Nat → Option Nat) → Nat → Nat → Nat → Nat → Nat → Int32 → Prop) (sh : List jH) (V : Nat → Nat → Int32) (R : Nat → Nat → Option Nat) (c : Nat) (n : Nat) (x1 : Nat) (x2 : Nat) (x3 : Nat) (x4 : Int32) : Prop :=
  (vp_in (x4 + (1 : Int32)) (jScN G) ∧ (jReg shX1 sh x1 ∧ (wX1_end x1 V (jScF G (x4 + (1 : Int32)).toNatClampNeg) (fun r348 V348 => (vp_in (x4 + (1 : Int32)) (jScN G) ∧ (jReg shX6 sh x2 ∧ (wX6_end x2 V348 (jScF G (x4 + (1 : Int32)).toNatClampNeg) (fun r358 V358 => ((r348 = r358 → (∀ y3184 : Int32, y3184 = x4 + (6 : Int32) → K23 sh V358 R c n x1 x2 x3 y3184)) ∧ (¬ r348 = r358 → Q (0 : Int32) sh V358 R))))))))))
theorem rL_law_341 {G : jG} {l : Launch} {d : Nat} (htr : l.stackTraces = false) (hdd : 107 ≤ d) {Q : Int32 → List jH → (Nat → Nat → Int32) → (Nat → Nat → Option Nat) → Prop} {K23 : List jH → (Nat → Nat → Int32) → (Nat → Nat → Option Nat) → Nat → Nat → Nat → Nat → Nat → Int32 → Prop} (hK23 : ∀ (sh : List jH) (V : Nat → Nat → Int32) (R : Nat → Nat → Option Nat) (c : Nat) (n : Nat) (x1 : Nat) (x2 : Nat) (x3 : Nat) (x4 : Int32), K23 sh V R c n x1 x2 x3 x4 → J G l ML_law d c n 23 [(0, .ref 69), (1, .ref x1), (2, .ref x2), (3, .ref x3), (4, .int x4)] [] (mk sh V R) (jSr Q) jNo) {sh : List jH} {V : Nat → Nat → Int32} {R : Nat → Nat → Option Nat} {c : Nat} {n : Nat} {x1 : Nat} {x2 : Nat} {x3 : Nat} {x4 : Int32} (hw : wL_law_341 G Q K23 sh V R c n x1 x2 x3 x4) : J G l ML_law d c n 341 [(0, .ref 69), (1, .ref x1), (2, .ref x2), (3, .ref x3), (4, .int x4)] [] (mk sh V R) (jSr Q) jNo := by
  unfold wL_law_341 at hw
  refine J.aload_n 1 dL_law_341 rfl ?_
  refine J.aload_n 0 dL_law_342 rfl ?_
  refine J.iload 4 dL_law_343 rfl ?_
  refine J.iconst (v := (1 : Int32)) dL_law_345 (by decide) ?_
  refine J.iadd dL_law_346 ?_
  obtain ⟨h347, hw⟩ := hw
  refine J.sld dL_law_347 h347 ?_
  obtain ⟨hq348_x1, hw⟩ := hw
  refine uL_148 rfl htr hq348_x1 dL_law_348 (by omega) (Nat.le_of_ble_eq_true rfl) hw ?_
  clear hw
  intro r348 V348 hw
  refine J.aload_n 2 dL_law_351 rfl ?_
  refine J.aload_n 0 dL_law_352 rfl ?_
  refine J.iload 4 dL_law_353 rfl ?_
  refine J.iconst (v := (1 : Int32)) dL_law_355 (by decide) ?_
  refine J.iadd dL_law_356 ?_
  obtain ⟨h357, hw⟩ := hw
  refine J.sld dL_law_357 h357 ?_
  obtain ⟨hq358_x2, hw⟩ := hw
  refine uL_152 rfl htr hq358_x2 dL_law_358 (by omega) (Nat.le_of_ble_eq_true rfl) hw ?_
  clear hw
  intro r358 V358 hw
  refine J.icmp_eq 3184 dL_law_361 (by decide) ⟨fun c361 => ?_, fun c361 => ?_⟩
  · obtain ⟨hw, -⟩ := hw
    specialize hw c361
    refine J.iincN 4 (K := (6 : Int32)) (lv' := fun y3184 => [(4, .int y3184), (0, .ref 69), (1, .ref x1), (2, .ref x2), (3, .ref x3)]) dL_law_3184 rfl (by decide) (by decide) (fun _ => rfl) hw ?_
    clear hw
    intro y3184 hw
    refine J.goto 23 dL_law_3187 (by decide) ?_
    exact J.pick [1, 2, 3, 4, 0] rfl (hK23 _ _ _ _ _ _ _ _ _ hw)
  · obtain ⟨-, hw⟩ := hw
    specialize hw c361
    refine J.iconst (v := (0 : Int32)) dL_law_364 (by decide) ?_
    exact J.zret rfl rfl dL_law_365 ⟨_, _, _, rfl, _, rfl, hw⟩
def wL_law_366 (G : jG) (Q : Int32 → List jH → (Nat → Nat → Int32) → (Nat → Nat → Option Nat) → Prop) (K23 : List jH → (Nat → Nat → Int32) → (Nat → Nat → Option Nat) → Nat → Nat → Nat → Nat → Nat → Int32 → Prop) (sh : List jH) (V : Nat → Nat → Int32) (R : Nat → Nat → Option Nat) (c : Nat) (n : Nat) (x1 : Nat) (x2 : Nat) (x3 : Nat) (x4 : Int32) : Prop :=
  (jReg shX1 sh x1 ∧ (∃ c1368 n1368 c2368 n2368 : Nat, c1368 + c2368 ≤ c ∧ n1368 + n2368 ≤ n ∧ (wX0_ground x1 sh V R c1368 n1368 x3 (fun r368 sh368 V368 R368 => (jReg shX6 sh368 x2 ∧ (wX6_ground x2 sh368 R368 V368 (fun r374 V374 => (jReg shX6 sh368 x2 ∧ (wX6_thrown x2 V374 (fun r380 => ((r380 = r368 → ((¬ r368 = 0 → (∀ y3184 : Int32, y3184 = x4 + (6 : Int32) → K23 sh368 V374 R368 c2368 n2368 x1 x2 x3 y3184)) ∧ (r368 = 0 → (∃ f397 : Nat → Int64, sh368[x3]? = some (jF (.inl (3, 1, .inr (.inl f397)))) ∧ jn ≤ x3 ∧ (((lg_cmp (f397 0) r374.toInt64) = 0 → (∀ y3184 : Int32, y3184 = x4 + (6 : Int32) → K23 sh368 V374 R368 c2368 n2368 x1 x2 x3 y3184)) ∧ (¬ (lg_cmp (f397 0) r374.toInt64) = 0 → Q (0 : Int32) sh368 V374 R368)))))) ∧ (¬ r380 = r368 → Q (0 : Int32) sh368 V374 R368))))))))))))
theorem rL_law_366 {G : jG} {l : Launch} {d : Nat} (htr : l.stackTraces = false) (hdd : 107 ≤ d) {Q : Int32 → List jH → (Nat → Nat → Int32) → (Nat → Nat → Option Nat) → Prop} {K23 : List jH → (Nat → Nat → Int32) → (Nat → Nat → Option Nat) → Nat → Nat → Nat → Nat → Nat → Int32 → Prop} (hK23 : ∀ (sh : List jH) (V : Nat → Nat → Int32) (R : Nat → Nat → Option Nat) (c : Nat) (n : Nat) (x1 : Nat) (x2 : Nat) (x3 : Nat) (x4 : Int32), K23 sh V R c n x1 x2 x3 x4 → J G l ML_law d c n 23 [(0, .ref 69), (1, .ref x1), (2, .ref x2), (3, .ref x3), (4, .int x4)] [] (mk sh V R) (jSr Q) jNo) {sh : List jH} {V : Nat → Nat → Int32} {R : Nat → Nat → Option Nat} {c : Nat} {n : Nat} {x1 : Nat} {x2 : Nat} {x3 : Nat} {x4 : Int32} (hw : wL_law_366 G Q K23 sh V R c n x1 x2 x3 x4) : J G l ML_law d c n 366 [(0, .ref 69), (1, .ref x1), (2, .ref x2), (3, .ref x3), (4, .int x4)] [] (mk sh V R) (jSr Q) jNo := by
  unfold wL_law_366 at hw
  refine J.aload_n 1 dL_law_366 rfl ?_
  refine J.aload_n 3 dL_law_367 rfl ?_
  obtain ⟨hq368_x1, hw⟩ := hw
  obtain ⟨c1368, n1368, c2368, n2368, hc368, hd368, hw⟩ := hw
  refine uL_153 rfl htr hq368_x1 dL_law_368 (by omega) (Nat.le_of_ble_eq_true rfl) hw ⟨hc368, hd368⟩ ?_
  clear hw
  intro r368 sh368 V368 R368 hw
  refine J.istore (lv' := [(5, .int r368), (0, .ref 69), (1, .ref x1), (2, .ref x2), (3, .ref x3), (4, .int x4)]) dL_law_371 (by decide) rfl ?_
  refine J.aload_n 3 dL_law_373 rfl ?_
  obtain ⟨hq374_x2, hw⟩ := hw
  refine uL_158 rfl htr hq374_x2 dL_law_374 (by omega) (Nat.le_of_ble_eq_true rfl) hw ?_
  clear hw
  intro r374 V374 hw
  refine J.istore (lv' := [(6, .int r374), (5, .int r368), (0, .ref 69), (1, .ref x1), (2, .ref x2), (3, .ref x3), (4, .int x4)]) dL_law_377 (by decide) rfl ?_
  refine J.aload_n 4 dL_law_379 rfl ?_
  obtain ⟨hq380_x2, hw⟩ := hw
  refine uL_159 rfl htr hq380_x2 dL_law_380 (by omega) (Nat.le_of_ble_eq_true rfl) hw ?_
  clear hw
  intro r380 hw
  refine J.iload 1 dL_law_383 rfl ?_
  refine J.icmp_eq 390 dL_law_385 (by decide) ⟨fun c385 => ?_, fun c385 => ?_⟩
  · obtain ⟨hw, -⟩ := hw
    specialize hw c385
    refine J.iload 1 dL_law_390 rfl ?_
    refine J.if_ne 407 dL_law_392 (by decide) ⟨fun c392 => ?_, fun c392 => ?_⟩
    · obtain ⟨hw, -⟩ := hw
      specialize hw c392
      refine J.goto 3184 dL_law_407 (by decide) ?_
      refine J.iincN 6 (K := (6 : Int32)) (lv' := fun y3184 => [(4, .int y3184), (6, .int r374), (5, .int r368), (0, .ref 69), (1, .ref x1), (2, .ref x2), (3, .ref x3)]) dL_law_3184 rfl (by decide) (by decide) (fun _ => rfl) hw ?_
      clear hw
      intro y3184 hw
      refine J.goto 23 dL_law_3187 (by decide) ?_
      exact J.pick [3, 4, 5, 6, 0] rfl (hK23 _ _ _ _ _ _ _ _ _ hw)
    · obtain ⟨-, hw⟩ := hw
      specialize hw c392
      refine J.aload_n 5 dL_law_395 rfl ?_
      refine J.iconst (v := (0 : Int32)) dL_law_396 (by decide) ?_
      obtain ⟨f397, hk397, hn397, hw⟩ := hw
      refine JV.lald0 dL_law_397 hn397 hk397 ?_
      refine J.iload 0 dL_law_398 rfl ?_
      refine J.i2l dL_law_400 ?_
      refine J.lcmp dL_law_401 ?_
      refine J.if_eq 407 dL_law_402 (by decide) ⟨fun c402 => ?_, fun c402 => ?_⟩
      · obtain ⟨hw, -⟩ := hw
        specialize hw c402
        refine J.goto 3184 dL_law_407 (by decide) ?_
        refine J.iincN 6 (K := (6 : Int32)) (lv' := fun y3184 => [(4, .int y3184), (6, .int r374), (5, .int r368), (0, .ref 69), (1, .ref x1), (2, .ref x2), (3, .ref x3)]) dL_law_3184 rfl (by decide) (by decide) (fun _ => rfl) hw ?_
        clear hw
        intro y3184 hw
        refine J.goto 23 dL_law_3187 (by decide) ?_
        exact J.pick [3, 4, 5, 6, 0] rfl (hK23 _ _ _ _ _ _ _ _ _ hw)
      · obtain ⟨-, hw⟩ := hw
        specialize hw c402
        refine J.iconst (v := (0 : Int32)) dL_law_405 (by decide) ?_
        exact J.zret rfl rfl dL_law_406 ⟨_, _, _, rfl, _, rfl, hw⟩
  · obtain ⟨-, hw⟩ := hw
    specialize hw c385
    refine J.iconst (v := (0 : Int32)) dL_law_388 (by decide) ?_
    exact J.zret rfl rfl dL_law_389 ⟨_, _, _, rfl, _, rfl, hw⟩
def wL_law_410 (G : jG) (Q : Int32 → List jH → (Nat → Nat → Int32) → (Nat → Nat → Option Nat) → Prop) (K23 : List jH → (Nat → Nat → Int32) → (Nat → Nat → Option Nat) → Nat → Nat → Nat → Nat → Nat → Int32 → Prop) (sh : List jH) (V : Nat → Nat → Int32) (R : Nat → Nat → Option Nat) (c : Nat) (n : Nat) (x1 : Nat) (x2 : Nat) (x3 : Nat) (x4 : Int32) : Prop :=
  (jReg shX1 sh x1 ∧ (∃ c1412 n1412 c2412 n2412 : Nat, c1412 + c2412 ≤ c ∧ n1412 + n2412 ≤ n ∧ (wX0_law x1 sh V R c1412 n1412 x3 (fun r412 sh412 V412 R412 => (jReg shX6 sh412 x2 ∧ (wX6_law x2 sh412 R412 V412 (fun r418 V418 => (jReg shX6 sh412 x2 ∧ (wX6_thrown x2 V418 (fun r424 => ((r424 = r412 → ((¬ r412 = 0 → (∀ y3184 : Int32, y3184 = x4 + (6 : Int32) → K23 sh412 V418 R412 c2412 n2412 x1 x2 x3 y3184)) ∧ (r412 = 0 → (∃ f441 : Nat → Int64, sh412[x3]? = some (jF (.inl (3, 1, .inr (.inl f441)))) ∧ jn ≤ x3 ∧ (((lg_cmp (f441 0) r418.toInt64) = 0 → (∀ y3184 : Int32, y3184 = x4 + (6 : Int32) → K23 sh412 V418 R412 c2412 n2412 x1 x2 x3 y3184)) ∧ (¬ (lg_cmp (f441 0) r418.toInt64) = 0 → Q (0 : Int32) sh412 V418 R412)))))) ∧ (¬ r424 = r412 → Q (0 : Int32) sh412 V418 R412))))))))))))
theorem rL_law_410 {G : jG} {l : Launch} {d : Nat} (htr : l.stackTraces = false) (hdd : 107 ≤ d) {Q : Int32 → List jH → (Nat → Nat → Int32) → (Nat → Nat → Option Nat) → Prop} {K23 : List jH → (Nat → Nat → Int32) → (Nat → Nat → Option Nat) → Nat → Nat → Nat → Nat → Nat → Int32 → Prop} (hK23 : ∀ (sh : List jH) (V : Nat → Nat → Int32) (R : Nat → Nat → Option Nat) (c : Nat) (n : Nat) (x1 : Nat) (x2 : Nat) (x3 : Nat) (x4 : Int32), K23 sh V R c n x1 x2 x3 x4 → J G l ML_law d c n 23 [(0, .ref 69), (1, .ref x1), (2, .ref x2), (3, .ref x3), (4, .int x4)] [] (mk sh V R) (jSr Q) jNo) {sh : List jH} {V : Nat → Nat → Int32} {R : Nat → Nat → Option Nat} {c : Nat} {n : Nat} {x1 : Nat} {x2 : Nat} {x3 : Nat} {x4 : Int32} (hw : wL_law_410 G Q K23 sh V R c n x1 x2 x3 x4) : J G l ML_law d c n 410 [(0, .ref 69), (1, .ref x1), (2, .ref x2), (3, .ref x3), (4, .int x4)] [] (mk sh V R) (jSr Q) jNo := by
  unfold wL_law_410 at hw
  refine J.aload_n 1 dL_law_410 rfl ?_
  refine J.aload_n 3 dL_law_411 rfl ?_
  obtain ⟨hq412_x1, hw⟩ := hw
  obtain ⟨c1412, n1412, c2412, n2412, hc412, hd412, hw⟩ := hw
  refine uL_162 rfl htr hq412_x1 dL_law_412 (by omega) (Nat.le_of_ble_eq_true rfl) hw ⟨hc412, hd412⟩ ?_
  clear hw
  intro r412 sh412 V412 R412 hw
  refine J.istore (lv' := [(5, .int r412), (0, .ref 69), (1, .ref x1), (2, .ref x2), (3, .ref x3), (4, .int x4)]) dL_law_415 (by decide) rfl ?_
  refine J.aload_n 3 dL_law_417 rfl ?_
  obtain ⟨hq418_x2, hw⟩ := hw
  refine uL_164 rfl htr hq418_x2 dL_law_418 (by omega) (Nat.le_of_ble_eq_true rfl) hw ?_
  clear hw
  intro r418 V418 hw
  refine J.istore (lv' := [(6, .int r418), (5, .int r412), (0, .ref 69), (1, .ref x1), (2, .ref x2), (3, .ref x3), (4, .int x4)]) dL_law_421 (by decide) rfl ?_
  refine J.aload_n 4 dL_law_423 rfl ?_
  obtain ⟨hq424_x2, hw⟩ := hw
  refine uL_159 rfl htr hq424_x2 dL_law_424 (by omega) (Nat.le_of_ble_eq_true rfl) hw ?_
  clear hw
  intro r424 hw
  refine J.iload 1 dL_law_427 rfl ?_
  refine J.icmp_eq 434 dL_law_429 (by decide) ⟨fun c429 => ?_, fun c429 => ?_⟩
  · obtain ⟨hw, -⟩ := hw
    specialize hw c429
    refine J.iload 1 dL_law_434 rfl ?_
    refine J.if_ne 451 dL_law_436 (by decide) ⟨fun c436 => ?_, fun c436 => ?_⟩
    · obtain ⟨hw, -⟩ := hw
      specialize hw c436
      refine J.goto 3184 dL_law_451 (by decide) ?_
      refine J.iincN 6 (K := (6 : Int32)) (lv' := fun y3184 => [(4, .int y3184), (6, .int r418), (5, .int r412), (0, .ref 69), (1, .ref x1), (2, .ref x2), (3, .ref x3)]) dL_law_3184 rfl (by decide) (by decide) (fun _ => rfl) hw ?_
      clear hw
      intro y3184 hw
      refine J.goto 23 dL_law_3187 (by decide) ?_
      exact J.pick [3, 4, 5, 6, 0] rfl (hK23 _ _ _ _ _ _ _ _ _ hw)
    · obtain ⟨-, hw⟩ := hw
      specialize hw c436
      refine J.aload_n 5 dL_law_439 rfl ?_
      refine J.iconst (v := (0 : Int32)) dL_law_440 (by decide) ?_
      obtain ⟨f441, hk441, hn441, hw⟩ := hw
      refine JV.lald0 dL_law_441 hn441 hk441 ?_
      refine J.iload 0 dL_law_442 rfl ?_
      refine J.i2l dL_law_444 ?_
      refine J.lcmp dL_law_445 ?_
      refine J.if_eq 451 dL_law_446 (by decide) ⟨fun c446 => ?_, fun c446 => ?_⟩
      · obtain ⟨hw, -⟩ := hw
        specialize hw c446
        refine J.goto 3184 dL_law_451 (by decide) ?_
        refine J.iincN 6 (K := (6 : Int32)) (lv' := fun y3184 => [(4, .int y3184), (6, .int r418), (5, .int r412), (0, .ref 69), (1, .ref x1), (2, .ref x2), (3, .ref x3)]) dL_law_3184 rfl (by decide) (by decide) (fun _ => rfl) hw ?_
        clear hw
        intro y3184 hw
        refine J.goto 23 dL_law_3187 (by decide) ?_
        exact J.pick [3, 4, 5, 6, 0] rfl (hK23 _ _ _ _ _ _ _ _ _ hw)
      · obtain ⟨-, hw⟩ := hw
        specialize hw c446
        refine J.iconst (v := (0 : Int32)) dL_law_449 (by decide) ?_
        exact J.zret rfl rfl dL_law_450 ⟨_, _, _, rfl, _, rfl, hw⟩
  · obtain ⟨-, hw⟩ := hw
    specialize hw c429
    refine J.iconst (v := (0 : Int32)) dL_law_432 (by decide) ?_
    exact J.zret rfl rfl dL_law_433 ⟨_, _, _, rfl, _, rfl, hw⟩
def wL_law_454 (G : jG) (Q : Int32 → List jH → (Nat → Nat → Int32) → (Nat → Nat → Option Nat) → Prop) (K23 : List jH → (Nat → Nat → Int32) → (Nat → Nat → Option Nat) → Nat → Nat → Nat → Nat → Nat → Int32 → Prop) (sh : List jH) (V : Nat → Nat → Int32) (R : Nat → Nat → Option Nat) (c : Nat) (n : Nat) (x1 : Nat) (x2 : Nat) (x3 : Nat) (x4 : Int32) : Prop :=
  (jReg shX1 sh x1 ∧ (wX1_fault x1 V (fun r455 => (jReg shX6 sh x2 ∧ (wX6_fault x2 V (fun r459 V459 => ((r455 = r459 → (∀ y3184 : Int32, y3184 = x4 + (6 : Int32) → K23 sh V459 R c n x1 x2 x3 y3184)) ∧ (¬ r455 = r459 → Q (0 : Int32) sh V459 R))))))))
theorem rL_law_454 {G : jG} {l : Launch} {d : Nat} (htr : l.stackTraces = false) (hdd : 107 ≤ d) {Q : Int32 → List jH → (Nat → Nat → Int32) → (Nat → Nat → Option Nat) → Prop} {K23 : List jH → (Nat → Nat → Int32) → (Nat → Nat → Option Nat) → Nat → Nat → Nat → Nat → Nat → Int32 → Prop} (hK23 : ∀ (sh : List jH) (V : Nat → Nat → Int32) (R : Nat → Nat → Option Nat) (c : Nat) (n : Nat) (x1 : Nat) (x2 : Nat) (x3 : Nat) (x4 : Int32), K23 sh V R c n x1 x2 x3 x4 → J G l ML_law d c n 23 [(0, .ref 69), (1, .ref x1), (2, .ref x2), (3, .ref x3), (4, .int x4)] [] (mk sh V R) (jSr Q) jNo) {sh : List jH} {V : Nat → Nat → Int32} {R : Nat → Nat → Option Nat} {c : Nat} {n : Nat} {x1 : Nat} {x2 : Nat} {x3 : Nat} {x4 : Int32} (hw : wL_law_454 G Q K23 sh V R c n x1 x2 x3 x4) : J G l ML_law d c n 454 [(0, .ref 69), (1, .ref x1), (2, .ref x2), (3, .ref x3), (4, .int x4)] [] (mk sh V R) (jSr Q) jNo := by
  unfold wL_law_454 at hw
  refine J.aload_n 1 dL_law_454 rfl ?_
  obtain ⟨hq455_x1, hw⟩ := hw
  refine uL_165 rfl htr hq455_x1 dL_law_455 (by omega) (Nat.le_of_ble_eq_true rfl) hw ?_
  clear hw
  intro r455 hw
  refine J.aload_n 2 dL_law_458 rfl ?_
  obtain ⟨hq459_x2, hw⟩ := hw
  refine uL_168 rfl htr hq459_x2 dL_law_459 (by omega) (Nat.le_of_ble_eq_true rfl) hw ?_
  clear hw
  intro r459 V459 hw
  refine J.icmp_eq 3184 dL_law_462 (by decide) ⟨fun c462 => ?_, fun c462 => ?_⟩
  · obtain ⟨hw, -⟩ := hw
    specialize hw c462
    refine J.iincN 4 (K := (6 : Int32)) (lv' := fun y3184 => [(4, .int y3184), (0, .ref 69), (1, .ref x1), (2, .ref x2), (3, .ref x3)]) dL_law_3184 rfl (by decide) (by decide) (fun _ => rfl) hw ?_
    clear hw
    intro y3184 hw
    refine J.goto 23 dL_law_3187 (by decide) ?_
    exact J.pick [1, 2, 3, 4, 0] rfl (hK23 _ _ _ _ _ _ _ _ _ hw)
  · obtain ⟨-, hw⟩ := hw
    specialize hw c462
    refine J.iconst (v := (0 : Int32)) dL_law_465 (by decide) ?_
    exact J.zret rfl rfl dL_law_466 ⟨_, _, _, rfl, _, rfl, hw⟩
def wL_law_467 (G : jG) (Q : Int32 → List jH → (Nat → Nat → Int32) → (Nat → Nat → Option Nat) → Prop) (K23 : List jH → (Nat → Nat → Int32) → (Nat → Nat → Option Nat) → Nat → Nat → Nat → Nat → Nat → Int32 → Prop) (sh : List jH) (V : Nat → Nat → Int32) (R : Nat → Nat → Option Nat) (c : Nat) (n : Nat) (x1 : Nat) (x2 : Nat) (x3 : Nat) (x4 : Int32) : Prop :=
  (vp_in (x4 + (1 : Int32)) (jScN G) ∧ (vp_in (x4 + (2 : Int32)) (jScN G) ∧ (jReg shX1 sh x1 ∧ (∃ c1481 n1481 c2481 n2481 : Nat, c1481 + c2481 ≤ c ∧ n1481 + n2481 ≤ n ∧ (wX0_host x1 sh V R c1481 n1481 (jScF G (x4 + (1 : Int32)).toNatClampNeg) (jScF G (x4 + (2 : Int32)).toNatClampNeg) x3 (fun r481 sh481 V481 R481 => (vp_in (x4 + (1 : Int32)) (jScN G) ∧ (vp_in (x4 + (2 : Int32)) (jScN G) ∧ (jReg shX6 sh481 x2 ∧ (wX6_host x2 V481 (jScF G (x4 + (1 : Int32)).toNatClampNeg) (jScF G (x4 + (2 : Int32)).toNatClampNeg) (fun r499 V499 => (jReg shX6 sh481 x2 ∧ (wX6_thrown x2 V499 (fun r505 => ((r505 = r481 → ((¬ r481 = 0 → (∀ y3184 : Int32, y3184 = x4 + (6 : Int32) → K23 sh481 V499 R481 c2481 n2481 x1 x2 x3 y3184)) ∧ (r481 = 0 → (∃ f522 : Nat → Int64, sh481[x3]? = some (jF (.inl (3, 1, .inr (.inl f522)))) ∧ jn ≤ x3 ∧ (((lg_cmp (f522 0) r499.toInt64) = 0 → (∀ y3184 : Int32, y3184 = x4 + (6 : Int32) → K23 sh481 V499 R481 c2481 n2481 x1 x2 x3 y3184)) ∧ (¬ (lg_cmp (f522 0) r499.toInt64) = 0 → Q (0 : Int32) sh481 V499 R481)))))) ∧ (¬ r505 = r481 → Q (0 : Int32) sh481 V499 R481))))))))))))))))
theorem rL_law_467 {G : jG} {l : Launch} {d : Nat} (htr : l.stackTraces = false) (hdd : 107 ≤ d) {Q : Int32 → List jH → (Nat → Nat → Int32) → (Nat → Nat → Option Nat) → Prop} {K23 : List jH → (Nat → Nat → Int32) → (Nat → Nat → Option Nat) → Nat → Nat → Nat → Nat → Nat → Int32 → Prop} (hK23 : ∀ (sh : List jH) (V : Nat → Nat → Int32) (R : Nat → Nat → Option Nat) (c : Nat) (n : Nat) (x1 : Nat) (x2 : Nat) (x3 : Nat) (x4 : Int32), K23 sh V R c n x1 x2 x3 x4 → J G l ML_law d c n 23 [(0, .ref 69), (1, .ref x1), (2, .ref x2), (3, .ref x3), (4, .int x4)] [] (mk sh V R) (jSr Q) jNo) {sh : List jH} {V : Nat → Nat → Int32} {R : Nat → Nat → Option Nat} {c : Nat} {n : Nat} {x1 : Nat} {x2 : Nat} {x3 : Nat} {x4 : Int32} (hw : wL_law_467 G Q K23 sh V R c n x1 x2 x3 x4) : J G l ML_law d c n 467 [(0, .ref 69), (1, .ref x1), (2, .ref x2), (3, .ref x3), (4, .int x4)] [] (mk sh V R) (jSr Q) jNo := by
  unfold wL_law_467 at hw
  refine J.aload_n 1 dL_law_467 rfl ?_
  refine J.aload_n 0 dL_law_468 rfl ?_
  refine J.iload 4 dL_law_469 rfl ?_
  refine J.iconst (v := (1 : Int32)) dL_law_471 (by decide) ?_
  refine J.iadd dL_law_472 ?_
  obtain ⟨h473, hw⟩ := hw
  refine J.sld dL_law_473 h473 ?_
  refine J.aload_n 0 dL_law_474 rfl ?_
  refine J.iload 4 dL_law_475 rfl ?_
  refine J.iconst (v := (2 : Int32)) dL_law_477 (by decide) ?_
  refine J.iadd dL_law_478 ?_
  obtain ⟨h479, hw⟩ := hw
  refine J.sld dL_law_479 h479 ?_
  refine J.aload_n 3 dL_law_480 rfl ?_
  obtain ⟨hq481_x1, hw⟩ := hw
  obtain ⟨c1481, n1481, c2481, n2481, hc481, hd481, hw⟩ := hw
  refine uL_169 rfl htr hq481_x1 dL_law_481 (by omega) (Nat.le_of_ble_eq_true rfl) hw ⟨hc481, hd481⟩ ?_
  clear hw
  intro r481 sh481 V481 R481 hw
  refine J.istore (lv' := [(5, .int r481), (0, .ref 69), (1, .ref x1), (2, .ref x2), (3, .ref x3), (4, .int x4)]) dL_law_484 (by decide) rfl ?_
  refine J.aload_n 3 dL_law_486 rfl ?_
  refine J.aload_n 1 dL_law_487 rfl ?_
  refine J.iload 5 dL_law_488 rfl ?_
  refine J.iconst (v := (1 : Int32)) dL_law_490 (by decide) ?_
  refine J.iadd dL_law_491 ?_
  obtain ⟨h492, hw⟩ := hw
  refine J.sld dL_law_492 h492 ?_
  refine J.aload_n 1 dL_law_493 rfl ?_
  refine J.iload 5 dL_law_494 rfl ?_
  refine J.iconst (v := (2 : Int32)) dL_law_496 (by decide) ?_
  refine J.iadd dL_law_497 ?_
  obtain ⟨h498, hw⟩ := hw
  refine J.sld dL_law_498 h498 ?_
  obtain ⟨hq499_x2, hw⟩ := hw
  refine uL_172 rfl htr hq499_x2 dL_law_499 (by omega) (Nat.le_of_ble_eq_true rfl) hw ?_
  clear hw
  intro r499 V499 hw
  refine J.istore (lv' := [(6, .int r499), (5, .int r481), (0, .ref 69), (1, .ref x1), (2, .ref x2), (3, .ref x3), (4, .int x4)]) dL_law_502 (by decide) rfl ?_
  refine J.aload_n 4 dL_law_504 rfl ?_
  obtain ⟨hq505_x2, hw⟩ := hw
  refine uL_159 rfl htr hq505_x2 dL_law_505 (by omega) (Nat.le_of_ble_eq_true rfl) hw ?_
  clear hw
  intro r505 hw
  refine J.iload 1 dL_law_508 rfl ?_
  refine J.icmp_eq 515 dL_law_510 (by decide) ⟨fun c510 => ?_, fun c510 => ?_⟩
  · obtain ⟨hw, -⟩ := hw
    specialize hw c510
    refine J.iload 1 dL_law_515 rfl ?_
    refine J.if_ne 532 dL_law_517 (by decide) ⟨fun c517 => ?_, fun c517 => ?_⟩
    · obtain ⟨hw, -⟩ := hw
      specialize hw c517
      refine J.goto 3184 dL_law_532 (by decide) ?_
      refine J.iincN 6 (K := (6 : Int32)) (lv' := fun y3184 => [(4, .int y3184), (6, .int r499), (5, .int r481), (0, .ref 69), (1, .ref x1), (2, .ref x2), (3, .ref x3)]) dL_law_3184 rfl (by decide) (by decide) (fun _ => rfl) hw ?_
      clear hw
      intro y3184 hw
      refine J.goto 23 dL_law_3187 (by decide) ?_
      exact J.pick [3, 4, 5, 6, 0] rfl (hK23 _ _ _ _ _ _ _ _ _ hw)
    · obtain ⟨-, hw⟩ := hw
      specialize hw c517
      refine J.aload_n 5 dL_law_520 rfl ?_
      refine J.iconst (v := (0 : Int32)) dL_law_521 (by decide) ?_
      obtain ⟨f522, hk522, hn522, hw⟩ := hw
      refine JV.lald0 dL_law_522 hn522 hk522 ?_
      refine J.iload 0 dL_law_523 rfl ?_
      refine J.i2l dL_law_525 ?_
      refine J.lcmp dL_law_526 ?_
      refine J.if_eq 532 dL_law_527 (by decide) ⟨fun c527 => ?_, fun c527 => ?_⟩
      · obtain ⟨hw, -⟩ := hw
        specialize hw c527
        refine J.goto 3184 dL_law_532 (by decide) ?_
        refine J.iincN 6 (K := (6 : Int32)) (lv' := fun y3184 => [(4, .int y3184), (6, .int r499), (5, .int r481), (0, .ref 69), (1, .ref x1), (2, .ref x2), (3, .ref x3)]) dL_law_3184 rfl (by decide) (by decide) (fun _ => rfl) hw ?_
        clear hw
        intro y3184 hw
        refine J.goto 23 dL_law_3187 (by decide) ?_
        exact J.pick [3, 4, 5, 6, 0] rfl (hK23 _ _ _ _ _ _ _ _ _ hw)
      · obtain ⟨-, hw⟩ := hw
        specialize hw c527
        refine J.iconst (v := (0 : Int32)) dL_law_530 (by decide) ?_
        exact J.zret rfl rfl dL_law_531 ⟨_, _, _, rfl, _, rfl, hw⟩
  · obtain ⟨-, hw⟩ := hw
    specialize hw c510
    refine J.iconst (v := (0 : Int32)) dL_law_513 (by decide) ?_
    exact J.zret rfl rfl dL_law_514 ⟨_, _, _, rfl, _, rfl, hw⟩
def wL_law_535 (G : jG) (Q : Int32 → List jH → (Nat → Nat → Int32) → (Nat → Nat → Option Nat) → Prop) (K23 : List jH → (Nat → Nat → Int32) → (Nat → Nat → Option Nat) → Nat → Nat → Nat → Nat → Nat → Int32 → Prop) (sh : List jH) (V : Nat → Nat → Int32) (R : Nat → Nat → Option Nat) (c : Nat) (n : Nat) (x1 : Nat) (x2 : Nat) (x3 : Nat) (x4 : Int32) : Prop :=
  (vp_in (x4 + (1 : Int32)) (jScN G) ∧ (vp_in (x4 + (2 : Int32)) (jScN G) ∧ (jReg shX1 sh x1 ∧ (∃ c1549 n1549 c2549 n2549 : Nat, c1549 + c2549 ≤ c ∧ n1549 + n2549 ≤ n ∧ (wX0_guest x1 sh V R c1549 n1549 (jScF G (x4 + (1 : Int32)).toNatClampNeg) (jScF G (x4 + (2 : Int32)).toNatClampNeg) x3 (fun r549 sh549 V549 R549 => (vp_in (x4 + (1 : Int32)) (jScN G) ∧ (vp_in (x4 + (2 : Int32)) (jScN G) ∧ (jReg shX6 sh549 x2 ∧ (wX6_guest x2 V549 (jScF G (x4 + (1 : Int32)).toNatClampNeg) (jScF G (x4 + (2 : Int32)).toNatClampNeg) (fun r567 V567 => (jReg shX6 sh549 x2 ∧ (wX6_thrown x2 V567 (fun r573 => ((r573 = r549 → ((¬ r549 = 0 → (∀ y3184 : Int32, y3184 = x4 + (6 : Int32) → K23 sh549 V567 R549 c2549 n2549 x1 x2 x3 y3184)) ∧ (r549 = 0 → (∃ f590 : Nat → Int64, sh549[x3]? = some (jF (.inl (3, 1, .inr (.inl f590)))) ∧ jn ≤ x3 ∧ (((lg_cmp (f590 0) r567.toInt64) = 0 → (∀ y3184 : Int32, y3184 = x4 + (6 : Int32) → K23 sh549 V567 R549 c2549 n2549 x1 x2 x3 y3184)) ∧ (¬ (lg_cmp (f590 0) r567.toInt64) = 0 → Q (0 : Int32) sh549 V567 R549)))))) ∧ (¬ r573 = r549 → Q (0 : Int32) sh549 V567 R549))))))))))))))))
theorem rL_law_535 {G : jG} {l : Launch} {d : Nat} (htr : l.stackTraces = false) (hdd : 107 ≤ d) {Q : Int32 → List jH → (Nat → Nat → Int32) → (Nat → Nat → Option Nat) → Prop} {K23 : List jH → (Nat → Nat → Int32) → (Nat → Nat → Option Nat) → Nat → Nat → Nat → Nat → Nat → Int32 → Prop} (hK23 : ∀ (sh : List jH) (V : Nat → Nat → Int32) (R : Nat → Nat → Option Nat) (c : Nat) (n : Nat) (x1 : Nat) (x2 : Nat) (x3 : Nat) (x4 : Int32), K23 sh V R c n x1 x2 x3 x4 → J G l ML_law d c n 23 [(0, .ref 69), (1, .ref x1), (2, .ref x2), (3, .ref x3), (4, .int x4)] [] (mk sh V R) (jSr Q) jNo) {sh : List jH} {V : Nat → Nat → Int32} {R : Nat → Nat → Option Nat} {c : Nat} {n : Nat} {x1 : Nat} {x2 : Nat} {x3 : Nat} {x4 : Int32} (hw : wL_law_535 G Q K23 sh V R c n x1 x2 x3 x4) : J G l ML_law d c n 535 [(0, .ref 69), (1, .ref x1), (2, .ref x2), (3, .ref x3), (4, .int x4)] [] (mk sh V R) (jSr Q) jNo := by
  unfold wL_law_535 at hw
  refine J.aload_n 1 dL_law_535 rfl ?_
  refine J.aload_n 0 dL_law_536 rfl ?_
  refine J.iload 4 dL_law_537 rfl ?_
  refine J.iconst (v := (1 : Int32)) dL_law_539 (by decide) ?_
  refine J.iadd dL_law_540 ?_
  obtain ⟨h541, hw⟩ := hw
  refine J.sld dL_law_541 h541 ?_
  refine J.aload_n 0 dL_law_542 rfl ?_
  refine J.iload 4 dL_law_543 rfl ?_
  refine J.iconst (v := (2 : Int32)) dL_law_545 (by decide) ?_
  refine J.iadd dL_law_546 ?_
  obtain ⟨h547, hw⟩ := hw
  refine J.sld dL_law_547 h547 ?_
  refine J.aload_n 3 dL_law_548 rfl ?_
  obtain ⟨hq549_x1, hw⟩ := hw
  obtain ⟨c1549, n1549, c2549, n2549, hc549, hd549, hw⟩ := hw
  refine uL_173 rfl htr hq549_x1 dL_law_549 (by omega) (Nat.le_of_ble_eq_true rfl) hw ⟨hc549, hd549⟩ ?_
  clear hw
  intro r549 sh549 V549 R549 hw
  refine J.istore (lv' := [(5, .int r549), (0, .ref 69), (1, .ref x1), (2, .ref x2), (3, .ref x3), (4, .int x4)]) dL_law_552 (by decide) rfl ?_
  refine J.aload_n 3 dL_law_554 rfl ?_
  refine J.aload_n 1 dL_law_555 rfl ?_
  refine J.iload 5 dL_law_556 rfl ?_
  refine J.iconst (v := (1 : Int32)) dL_law_558 (by decide) ?_
  refine J.iadd dL_law_559 ?_
  obtain ⟨h560, hw⟩ := hw
  refine J.sld dL_law_560 h560 ?_
  refine J.aload_n 1 dL_law_561 rfl ?_
  refine J.iload 5 dL_law_562 rfl ?_
  refine J.iconst (v := (2 : Int32)) dL_law_564 (by decide) ?_
  refine J.iadd dL_law_565 ?_
  obtain ⟨h566, hw⟩ := hw
  refine J.sld dL_law_566 h566 ?_
  obtain ⟨hq567_x2, hw⟩ := hw
  refine uL_175 rfl htr hq567_x2 dL_law_567 (by omega) (Nat.le_of_ble_eq_true rfl) hw ?_
  clear hw
  intro r567 V567 hw
  refine J.istore (lv' := [(6, .int r567), (5, .int r549), (0, .ref 69), (1, .ref x1), (2, .ref x2), (3, .ref x3), (4, .int x4)]) dL_law_570 (by decide) rfl ?_
  refine J.aload_n 4 dL_law_572 rfl ?_
  obtain ⟨hq573_x2, hw⟩ := hw
  refine uL_159 rfl htr hq573_x2 dL_law_573 (by omega) (Nat.le_of_ble_eq_true rfl) hw ?_
  clear hw
  intro r573 hw
  refine J.iload 1 dL_law_576 rfl ?_
  refine J.icmp_eq 583 dL_law_578 (by decide) ⟨fun c578 => ?_, fun c578 => ?_⟩
  · obtain ⟨hw, -⟩ := hw
    specialize hw c578
    refine J.iload 1 dL_law_583 rfl ?_
    refine J.if_ne 600 dL_law_585 (by decide) ⟨fun c585 => ?_, fun c585 => ?_⟩
    · obtain ⟨hw, -⟩ := hw
      specialize hw c585
      refine J.goto 3184 dL_law_600 (by decide) ?_
      refine J.iincN 6 (K := (6 : Int32)) (lv' := fun y3184 => [(4, .int y3184), (6, .int r567), (5, .int r549), (0, .ref 69), (1, .ref x1), (2, .ref x2), (3, .ref x3)]) dL_law_3184 rfl (by decide) (by decide) (fun _ => rfl) hw ?_
      clear hw
      intro y3184 hw
      refine J.goto 23 dL_law_3187 (by decide) ?_
      exact J.pick [3, 4, 5, 6, 0] rfl (hK23 _ _ _ _ _ _ _ _ _ hw)
    · obtain ⟨-, hw⟩ := hw
      specialize hw c585
      refine J.aload_n 5 dL_law_588 rfl ?_
      refine J.iconst (v := (0 : Int32)) dL_law_589 (by decide) ?_
      obtain ⟨f590, hk590, hn590, hw⟩ := hw
      refine JV.lald0 dL_law_590 hn590 hk590 ?_
      refine J.iload 0 dL_law_591 rfl ?_
      refine J.i2l dL_law_593 ?_
      refine J.lcmp dL_law_594 ?_
      refine J.if_eq 600 dL_law_595 (by decide) ⟨fun c595 => ?_, fun c595 => ?_⟩
      · obtain ⟨hw, -⟩ := hw
        specialize hw c595
        refine J.goto 3184 dL_law_600 (by decide) ?_
        refine J.iincN 6 (K := (6 : Int32)) (lv' := fun y3184 => [(4, .int y3184), (6, .int r567), (5, .int r549), (0, .ref 69), (1, .ref x1), (2, .ref x2), (3, .ref x3)]) dL_law_3184 rfl (by decide) (by decide) (fun _ => rfl) hw ?_
        clear hw
        intro y3184 hw
        refine J.goto 23 dL_law_3187 (by decide) ?_
        exact J.pick [3, 4, 5, 6, 0] rfl (hK23 _ _ _ _ _ _ _ _ _ hw)
      · obtain ⟨-, hw⟩ := hw
        specialize hw c595
        refine J.iconst (v := (0 : Int32)) dL_law_598 (by decide) ?_
        exact J.zret rfl rfl dL_law_599 ⟨_, _, _, rfl, _, rfl, hw⟩
  · obtain ⟨-, hw⟩ := hw
    specialize hw c578
    refine J.iconst (v := (0 : Int32)) dL_law_581 (by decide) ?_
    exact J.zret rfl rfl dL_law_582 ⟨_, _, _, rfl, _, rfl, hw⟩
def wL_law_663 (G : jG) (Q : Int32 → List jH → (Nat → Nat → Int32) → (Nat → Nat → Option Nat) → Prop) (K23 : List jH → (Nat → Nat → Int32) → (Nat → Nat → Option Nat) → Nat → Nat → Nat → Nat → Nat → Int32 → Prop) (sh : List jH) (V : Nat → Nat → Int32) (R : Nat → Nat → Option Nat) (c : Nat) (n : Nat) (x1 : Nat) (x2 : Nat) (x3 : Nat) (x4 : Int32) (x5 : Int32) (s0 : Nat) (s1 : Int32) (s2 : Int32) (s3 : Int32) : Prop :=
  (jReg shX6 sh s0 ∧ (wX6_rank s0 V s1 s2 s3 (fun r663 V663 => (jReg shX6 sh x2 ∧ (wX6_thrown x2 V663 (fun r669 => ((r669 = x5 → ((¬ x5 = 0 → (∀ y3184 : Int32, y3184 = x4 + (6 : Int32) → K23 sh V663 R c n x1 x2 x3 y3184)) ∧ (x5 = 0 → (∃ f686 : Nat → Int64, sh[x3]? = some (jF (.inl (3, 1, .inr (.inl f686)))) ∧ jn ≤ x3 ∧ (((lg_cmp (f686 0) r663.toInt64) = 0 → (∀ y3184 : Int32, y3184 = x4 + (6 : Int32) → K23 sh V663 R c n x1 x2 x3 y3184)) ∧ (¬ (lg_cmp (f686 0) r663.toInt64) = 0 → Q (0 : Int32) sh V663 R)))))) ∧ (¬ r669 = x5 → Q (0 : Int32) sh V663 R))))))))
theorem rL_law_663 {G : jG} {l : Launch} {d : Nat} (htr : l.stackTraces = false) (hdd : 107 ≤ d) {Q : Int32 → List jH → (Nat → Nat → Int32) → (Nat → Nat → Option Nat) → Prop} {K23 : List jH → (Nat → Nat → Int32) → (Nat → Nat → Option Nat) → Nat → Nat → Nat → Nat → Nat → Int32 → Prop} (hK23 : ∀ (sh : List jH) (V : Nat → Nat → Int32) (R : Nat → Nat → Option Nat) (c : Nat) (n : Nat) (x1 : Nat) (x2 : Nat) (x3 : Nat) (x4 : Int32), K23 sh V R c n x1 x2 x3 x4 → J G l ML_law d c n 23 [(0, .ref 69), (1, .ref x1), (2, .ref x2), (3, .ref x3), (4, .int x4)] [] (mk sh V R) (jSr Q) jNo) {sh : List jH} {V : Nat → Nat → Int32} {R : Nat → Nat → Option Nat} {c : Nat} {n : Nat} {x1 : Nat} {x2 : Nat} {x3 : Nat} {x4 : Int32} {x5 : Int32} {s0 : Nat} {s1 : Int32} {s2 : Int32} {s3 : Int32} (hw : wL_law_663 G Q K23 sh V R c n x1 x2 x3 x4 x5 s0 s1 s2 s3) : J G l ML_law d c n 663 [(0, .ref 69), (1, .ref x1), (2, .ref x2), (3, .ref x3), (4, .int x4), (5, .int x5)] [.int s3, .int s2, .int s1, .ref s0] (mk sh V R) (jSr Q) jNo := by
  unfold wL_law_663 at hw
  obtain ⟨hq663_s0, hw⟩ := hw
  refine uL_179 rfl htr hq663_s0 dL_law_663 (by omega) (Nat.le_of_ble_eq_true rfl) hw ?_
  clear hw
  intro r663 V663 hw
  refine J.istore (lv' := [(6, .int r663), (0, .ref 69), (1, .ref x1), (2, .ref x2), (3, .ref x3), (4, .int x4), (5, .int x5)]) dL_law_666 (by decide) rfl ?_
  refine J.aload_n 3 dL_law_668 rfl ?_
  obtain ⟨hq669_x2, hw⟩ := hw
  refine uL_159 rfl htr hq669_x2 dL_law_669 (by omega) (Nat.le_of_ble_eq_true rfl) hw ?_
  clear hw
  intro r669 hw
  refine J.iload 6 dL_law_672 rfl ?_
  refine J.icmp_eq 679 dL_law_674 (by decide) ⟨fun c674 => ?_, fun c674 => ?_⟩
  · obtain ⟨hw, -⟩ := hw
    specialize hw c674
    refine J.iload 6 dL_law_679 rfl ?_
    refine J.if_ne 696 dL_law_681 (by decide) ⟨fun c681 => ?_, fun c681 => ?_⟩
    · obtain ⟨hw, -⟩ := hw
      specialize hw c681
      refine J.goto 3184 dL_law_696 (by decide) ?_
      refine J.iincN 5 (K := (6 : Int32)) (lv' := fun y3184 => [(4, .int y3184), (6, .int r663), (0, .ref 69), (1, .ref x1), (2, .ref x2), (3, .ref x3), (5, .int x5)]) dL_law_3184 rfl (by decide) (by decide) (fun _ => rfl) hw ?_
      clear hw
      intro y3184 hw
      refine J.goto 23 dL_law_3187 (by decide) ?_
      exact J.pick [2, 3, 4, 5, 0] rfl (hK23 _ _ _ _ _ _ _ _ _ hw)
    · obtain ⟨-, hw⟩ := hw
      specialize hw c681
      refine J.aload_n 4 dL_law_684 rfl ?_
      refine J.iconst (v := (0 : Int32)) dL_law_685 (by decide) ?_
      obtain ⟨f686, hk686, hn686, hw⟩ := hw
      refine JV.lald0 dL_law_686 hn686 hk686 ?_
      refine J.iload 0 dL_law_687 rfl ?_
      refine J.i2l dL_law_689 ?_
      refine J.lcmp dL_law_690 ?_
      refine J.if_eq 696 dL_law_691 (by decide) ⟨fun c691 => ?_, fun c691 => ?_⟩
      · obtain ⟨hw, -⟩ := hw
        specialize hw c691
        refine J.goto 3184 dL_law_696 (by decide) ?_
        refine J.iincN 5 (K := (6 : Int32)) (lv' := fun y3184 => [(4, .int y3184), (6, .int r663), (0, .ref 69), (1, .ref x1), (2, .ref x2), (3, .ref x3), (5, .int x5)]) dL_law_3184 rfl (by decide) (by decide) (fun _ => rfl) hw ?_
        clear hw
        intro y3184 hw
        refine J.goto 23 dL_law_3187 (by decide) ?_
        exact J.pick [2, 3, 4, 5, 0] rfl (hK23 _ _ _ _ _ _ _ _ _ hw)
      · obtain ⟨-, hw⟩ := hw
        specialize hw c691
        refine J.iconst (v := (0 : Int32)) dL_law_694 (by decide) ?_
        exact J.zret rfl rfl dL_law_695 ⟨_, _, _, rfl, _, rfl, hw⟩
  · obtain ⟨-, hw⟩ := hw
    specialize hw c674
    refine J.iconst (v := (0 : Int32)) dL_law_677 (by decide) ?_
    exact J.zret rfl rfl dL_law_678 ⟨_, _, _, rfl, _, rfl, hw⟩
def wL_law_630 (G : jG) (Q : Int32 → List jH → (Nat → Nat → Int32) → (Nat → Nat → Option Nat) → Prop) (K23 : List jH → (Nat → Nat → Int32) → (Nat → Nat → Option Nat) → Nat → Nat → Nat → Nat → Nat → Int32 → Prop) (sh : List jH) (V : Nat → Nat → Int32) (R : Nat → Nat → Option Nat) (c : Nat) (n : Nat) (x1 : Nat) (x2 : Nat) (x3 : Nat) (x4 : Int32) (s0 : Nat) (s1 : Int32) (s2 : Int32) (s3 : Int32) : Prop :=
  (jReg shX1 sh s0 ∧ (∃ c1631 n1631 c2631 n2631 : Nat, c1631 + c2631 ≤ c ∧ n1631 + n2631 ≤ n ∧ (wX0_rank s0 sh V R c1631 n1631 s1 s2 s3 x3 (fun r631 sh631 V631 R631 => (vp_in (x4 + (1 : Int32)) (jScN G) ∧ (vp_in (x4 + (2 : Int32)) (jScN G) ∧ (vp_in (x4 + (3 : Int32)) (jScN G) ∧ (((jScF G (x4 + (3 : Int32)).toNatClampNeg) = 0 → wL_law_663 G Q K23 sh631 V631 R631 c2631 n2631 x1 x2 x3 x4 r631 x2 (jScF G (x4 + (1 : Int32)).toNatClampNeg) (jScF G (x4 + (2 : Int32)).toNatClampNeg) (0 : Int32)) ∧ (¬ (jScF G (x4 + (3 : Int32)).toNatClampNeg) = 0 → wL_law_663 G Q K23 sh631 V631 R631 c2631 n2631 x1 x2 x3 x4 r631 x2 (jScF G (x4 + (1 : Int32)).toNatClampNeg) (jScF G (x4 + (2 : Int32)).toNatClampNeg) (1 : Int32))))))))))
theorem rL_law_630 {G : jG} {l : Launch} {d : Nat} (htr : l.stackTraces = false) (hdd : 107 ≤ d) {Q : Int32 → List jH → (Nat → Nat → Int32) → (Nat → Nat → Option Nat) → Prop} {K23 : List jH → (Nat → Nat → Int32) → (Nat → Nat → Option Nat) → Nat → Nat → Nat → Nat → Nat → Int32 → Prop} (hK23 : ∀ (sh : List jH) (V : Nat → Nat → Int32) (R : Nat → Nat → Option Nat) (c : Nat) (n : Nat) (x1 : Nat) (x2 : Nat) (x3 : Nat) (x4 : Int32), K23 sh V R c n x1 x2 x3 x4 → J G l ML_law d c n 23 [(0, .ref 69), (1, .ref x1), (2, .ref x2), (3, .ref x3), (4, .int x4)] [] (mk sh V R) (jSr Q) jNo) {sh : List jH} {V : Nat → Nat → Int32} {R : Nat → Nat → Option Nat} {c : Nat} {n : Nat} {x1 : Nat} {x2 : Nat} {x3 : Nat} {x4 : Int32} {s0 : Nat} {s1 : Int32} {s2 : Int32} {s3 : Int32} (hw : wL_law_630 G Q K23 sh V R c n x1 x2 x3 x4 s0 s1 s2 s3) : J G l ML_law d c n 630 [(0, .ref 69), (1, .ref x1), (2, .ref x2), (3, .ref x3), (4, .int x4)] [.int s3, .int s2, .int s1, .ref s0] (mk sh V R) (jSr Q) jNo := by
  unfold wL_law_630 at hw
  refine J.aload_n 3 dL_law_630 rfl ?_
  obtain ⟨hq631_s0, hw⟩ := hw
  obtain ⟨c1631, n1631, c2631, n2631, hc631, hd631, hw⟩ := hw
  refine uL_176 rfl htr hq631_s0 dL_law_631 (by omega) (Nat.le_of_ble_eq_true rfl) hw ⟨hc631, hd631⟩ ?_
  clear hw
  intro r631 sh631 V631 R631 hw
  refine J.istore (lv' := [(5, .int r631), (0, .ref 69), (1, .ref x1), (2, .ref x2), (3, .ref x3), (4, .int x4)]) dL_law_634 (by decide) rfl ?_
  refine J.aload_n 3 dL_law_636 rfl ?_
  refine J.aload_n 1 dL_law_637 rfl ?_
  refine J.iload 5 dL_law_638 rfl ?_
  refine J.iconst (v := (1 : Int32)) dL_law_640 (by decide) ?_
  refine J.iadd dL_law_641 ?_
  obtain ⟨h642, hw⟩ := hw
  refine J.sld dL_law_642 h642 ?_
  refine J.aload_n 1 dL_law_643 rfl ?_
  refine J.iload 5 dL_law_644 rfl ?_
  refine J.iconst (v := (2 : Int32)) dL_law_646 (by decide) ?_
  refine J.iadd dL_law_647 ?_
  obtain ⟨h648, hw⟩ := hw
  refine J.sld dL_law_648 h648 ?_
  refine J.aload_n 1 dL_law_649 rfl ?_
  refine J.iload 5 dL_law_650 rfl ?_
  refine J.iconst (v := (3 : Int32)) dL_law_652 (by decide) ?_
  refine J.iadd dL_law_653 ?_
  obtain ⟨h654, hw⟩ := hw
  refine J.sld dL_law_654 h654 ?_
  refine J.if_eq 662 dL_law_655 (by decide) ⟨fun c655 => ?_, fun c655 => ?_⟩
  · obtain ⟨hw, -⟩ := hw
    specialize hw c655
    refine J.iconst (v := (0 : Int32)) dL_law_662 (by decide) ?_
    exact J.pick [1, 2, 3, 4, 5, 0] rfl (rL_law_663 htr hdd hK23 hw)
  · obtain ⟨-, hw⟩ := hw
    specialize hw c655
    refine J.iconst (v := (1 : Int32)) dL_law_658 (by decide) ?_
    refine J.goto 663 dL_law_659 (by decide) ?_
    exact J.pick [1, 2, 3, 4, 5, 0] rfl (rL_law_663 htr hdd hK23 hw)
def wL_law_603 (G : jG) (Q : Int32 → List jH → (Nat → Nat → Int32) → (Nat → Nat → Option Nat) → Prop) (K23 : List jH → (Nat → Nat → Int32) → (Nat → Nat → Option Nat) → Nat → Nat → Nat → Nat → Nat → Int32 → Prop) (sh : List jH) (V : Nat → Nat → Int32) (R : Nat → Nat → Option Nat) (c : Nat) (n : Nat) (x1 : Nat) (x2 : Nat) (x3 : Nat) (x4 : Int32) : Prop :=
  (vp_in (x4 + (1 : Int32)) (jScN G) ∧ (vp_in (x4 + (2 : Int32)) (jScN G) ∧ (vp_in (x4 + (3 : Int32)) (jScN G) ∧ (((jScF G (x4 + (3 : Int32)).toNatClampNeg) = 0 → wL_law_630 G Q K23 sh V R c n x1 x2 x3 x4 x1 (jScF G (x4 + (1 : Int32)).toNatClampNeg) (jScF G (x4 + (2 : Int32)).toNatClampNeg) (0 : Int32)) ∧ (¬ (jScF G (x4 + (3 : Int32)).toNatClampNeg) = 0 → wL_law_630 G Q K23 sh V R c n x1 x2 x3 x4 x1 (jScF G (x4 + (1 : Int32)).toNatClampNeg) (jScF G (x4 + (2 : Int32)).toNatClampNeg) (1 : Int32))))))
theorem rL_law_603 {G : jG} {l : Launch} {d : Nat} (htr : l.stackTraces = false) (hdd : 107 ≤ d) {Q : Int32 → List jH → (Nat → Nat → Int32) → (Nat → Nat → Option Nat) → Prop} {K23 : List jH → (Nat → Nat → Int32) → (Nat → Nat → Option Nat) → Nat → Nat → Nat → Nat → Nat → Int32 → Prop} (hK23 : ∀ (sh : List jH) (V : Nat → Nat → Int32) (R : Nat → Nat → Option Nat) (c : Nat) (n : Nat) (x1 : Nat) (x2 : Nat) (x3 : Nat) (x4 : Int32), K23 sh V R c n x1 x2 x3 x4 → J G l ML_law d c n 23 [(0, .ref 69), (1, .ref x1), (2, .ref x2), (3, .ref x3), (4, .int x4)] [] (mk sh V R) (jSr Q) jNo) {sh : List jH} {V : Nat → Nat → Int32} {R : Nat → Nat → Option Nat} {c : Nat} {n : Nat} {x1 : Nat} {x2 : Nat} {x3 : Nat} {x4 : Int32} (hw : wL_law_603 G Q K23 sh V R c n x1 x2 x3 x4) : J G l ML_law d c n 603 [(0, .ref 69), (1, .ref x1), (2, .ref x2), (3, .ref x3), (4, .int x4)] [] (mk sh V R) (jSr Q) jNo := by
  unfold wL_law_603 at hw
  refine J.aload_n 1 dL_law_603 rfl ?_
  refine J.aload_n 0 dL_law_604 rfl ?_
  refine J.iload 4 dL_law_605 rfl ?_
  refine J.iconst (v := (1 : Int32)) dL_law_607 (by decide) ?_
  refine J.iadd dL_law_608 ?_
  obtain ⟨h609, hw⟩ := hw
  refine J.sld dL_law_609 h609 ?_
  refine J.aload_n 0 dL_law_610 rfl ?_
  refine J.iload 4 dL_law_611 rfl ?_
  refine J.iconst (v := (2 : Int32)) dL_law_613 (by decide) ?_
  refine J.iadd dL_law_614 ?_
  obtain ⟨h615, hw⟩ := hw
  refine J.sld dL_law_615 h615 ?_
  refine J.aload_n 0 dL_law_616 rfl ?_
  refine J.iload 4 dL_law_617 rfl ?_
  refine J.iconst (v := (3 : Int32)) dL_law_619 (by decide) ?_
  refine J.iadd dL_law_620 ?_
  obtain ⟨h621, hw⟩ := hw
  refine J.sld dL_law_621 h621 ?_
  refine J.if_eq 629 dL_law_622 (by decide) ⟨fun c622 => ?_, fun c622 => ?_⟩
  · obtain ⟨hw, -⟩ := hw
    specialize hw c622
    refine J.iconst (v := (0 : Int32)) dL_law_629 (by decide) ?_
    exact (rL_law_630 htr hdd hK23 hw)
  · obtain ⟨-, hw⟩ := hw
    specialize hw c622
    refine J.iconst (v := (1 : Int32)) dL_law_625 (by decide) ?_
    refine J.goto 630 dL_law_626 (by decide) ?_
    exact (rL_law_630 htr hdd hK23 hw)
def wL_law_699 (G : jG) (Q : Int32 → List jH → (Nat → Nat → Int32) → (Nat → Nat → Option Nat) → Prop) (K23 : List jH → (Nat → Nat → Int32) → (Nat → Nat → Option Nat) → Nat → Nat → Nat → Nat → Nat → Int32 → Prop) (sh : List jH) (V : Nat → Nat → Int32) (R : Nat → Nat → Option Nat) (c : Nat) (n : Nat) (x1 : Nat) (x2 : Nat) (x3 : Nat) (x4 : Int32) : Prop :=
  (vp_in (x4 + (1 : Int32)) (jScN G) ∧ (vp_in (x4 + (2 : Int32)) (jScN G) ∧ (jReg shX1 sh x1 ∧ (∃ c1713 n1713 c2713 n2713 : Nat, c1713 + c2713 ≤ c ∧ n1713 + n2713 ≤ n ∧ (wX0_booked x1 sh V R c1713 n1713 (jScF G (x4 + (1 : Int32)).toNatClampNeg) (jScF G (x4 + (2 : Int32)).toNatClampNeg) x3 (fun r713 sh713 V713 R713 => (vp_in (x4 + (1 : Int32)) (jScN G) ∧ (vp_in (x4 + (2 : Int32)) (jScN G) ∧ (jReg shX6 sh713 x2 ∧ (wX6_booked x2 V713 (jScF G (x4 + (1 : Int32)).toNatClampNeg) (jScF G (x4 + (2 : Int32)).toNatClampNeg) (fun r731 V731 => (jReg shX6 sh713 x2 ∧ (wX6_thrown x2 V731 (fun r737 => ((r737 = r713 → ((¬ r713 = 0 → (∀ y3184 : Int32, y3184 = x4 + (6 : Int32) → K23 sh713 V731 R713 c2713 n2713 x1 x2 x3 y3184)) ∧ (r713 = 0 → (∃ f754 : Nat → Int64, sh713[x3]? = some (jF (.inl (3, 1, .inr (.inl f754)))) ∧ jn ≤ x3 ∧ (((lg_cmp (f754 0) r731.toInt64) = 0 → (∀ y3184 : Int32, y3184 = x4 + (6 : Int32) → K23 sh713 V731 R713 c2713 n2713 x1 x2 x3 y3184)) ∧ (¬ (lg_cmp (f754 0) r731.toInt64) = 0 → Q (0 : Int32) sh713 V731 R713)))))) ∧ (¬ r737 = r713 → Q (0 : Int32) sh713 V731 R713))))))))))))))))
theorem rL_law_699 {G : jG} {l : Launch} {d : Nat} (htr : l.stackTraces = false) (hdd : 107 ≤ d) {Q : Int32 → List jH → (Nat → Nat → Int32) → (Nat → Nat → Option Nat) → Prop} {K23 : List jH → (Nat → Nat → Int32) → (Nat → Nat → Option Nat) → Nat → Nat → Nat → Nat → Nat → Int32 → Prop} (hK23 : ∀ (sh : List jH) (V : Nat → Nat → Int32) (R : Nat → Nat → Option Nat) (c : Nat) (n : Nat) (x1 : Nat) (x2 : Nat) (x3 : Nat) (x4 : Int32), K23 sh V R c n x1 x2 x3 x4 → J G l ML_law d c n 23 [(0, .ref 69), (1, .ref x1), (2, .ref x2), (3, .ref x3), (4, .int x4)] [] (mk sh V R) (jSr Q) jNo) {sh : List jH} {V : Nat → Nat → Int32} {R : Nat → Nat → Option Nat} {c : Nat} {n : Nat} {x1 : Nat} {x2 : Nat} {x3 : Nat} {x4 : Int32} (hw : wL_law_699 G Q K23 sh V R c n x1 x2 x3 x4) : J G l ML_law d c n 699 [(0, .ref 69), (1, .ref x1), (2, .ref x2), (3, .ref x3), (4, .int x4)] [] (mk sh V R) (jSr Q) jNo := by
  unfold wL_law_699 at hw
  refine J.aload_n 1 dL_law_699 rfl ?_
  refine J.aload_n 0 dL_law_700 rfl ?_
  refine J.iload 4 dL_law_701 rfl ?_
  refine J.iconst (v := (1 : Int32)) dL_law_703 (by decide) ?_
  refine J.iadd dL_law_704 ?_
  obtain ⟨h705, hw⟩ := hw
  refine J.sld dL_law_705 h705 ?_
  refine J.aload_n 0 dL_law_706 rfl ?_
  refine J.iload 4 dL_law_707 rfl ?_
  refine J.iconst (v := (2 : Int32)) dL_law_709 (by decide) ?_
  refine J.iadd dL_law_710 ?_
  obtain ⟨h711, hw⟩ := hw
  refine J.sld dL_law_711 h711 ?_
  refine J.aload_n 3 dL_law_712 rfl ?_
  obtain ⟨hq713_x1, hw⟩ := hw
  obtain ⟨c1713, n1713, c2713, n2713, hc713, hd713, hw⟩ := hw
  refine uL_180 rfl htr hq713_x1 dL_law_713 (by omega) (Nat.le_of_ble_eq_true rfl) hw ⟨hc713, hd713⟩ ?_
  clear hw
  intro r713 sh713 V713 R713 hw
  refine J.istore (lv' := [(5, .int r713), (0, .ref 69), (1, .ref x1), (2, .ref x2), (3, .ref x3), (4, .int x4)]) dL_law_716 (by decide) rfl ?_
  refine J.aload_n 3 dL_law_718 rfl ?_
  refine J.aload_n 1 dL_law_719 rfl ?_
  refine J.iload 5 dL_law_720 rfl ?_
  refine J.iconst (v := (1 : Int32)) dL_law_722 (by decide) ?_
  refine J.iadd dL_law_723 ?_
  obtain ⟨h724, hw⟩ := hw
  refine J.sld dL_law_724 h724 ?_
  refine J.aload_n 1 dL_law_725 rfl ?_
  refine J.iload 5 dL_law_726 rfl ?_
  refine J.iconst (v := (2 : Int32)) dL_law_728 (by decide) ?_
  refine J.iadd dL_law_729 ?_
  obtain ⟨h730, hw⟩ := hw
  refine J.sld dL_law_730 h730 ?_
  obtain ⟨hq731_x2, hw⟩ := hw
  refine uL_182 rfl htr hq731_x2 dL_law_731 (by omega) (Nat.le_of_ble_eq_true rfl) hw ?_
  clear hw
  intro r731 V731 hw
  refine J.istore (lv' := [(6, .int r731), (5, .int r713), (0, .ref 69), (1, .ref x1), (2, .ref x2), (3, .ref x3), (4, .int x4)]) dL_law_734 (by decide) rfl ?_
  refine J.aload_n 4 dL_law_736 rfl ?_
  obtain ⟨hq737_x2, hw⟩ := hw
  refine uL_159 rfl htr hq737_x2 dL_law_737 (by omega) (Nat.le_of_ble_eq_true rfl) hw ?_
  clear hw
  intro r737 hw
  refine J.iload 1 dL_law_740 rfl ?_
  refine J.icmp_eq 747 dL_law_742 (by decide) ⟨fun c742 => ?_, fun c742 => ?_⟩
  · obtain ⟨hw, -⟩ := hw
    specialize hw c742
    refine J.iload 1 dL_law_747 rfl ?_
    refine J.if_ne 764 dL_law_749 (by decide) ⟨fun c749 => ?_, fun c749 => ?_⟩
    · obtain ⟨hw, -⟩ := hw
      specialize hw c749
      refine J.goto 3184 dL_law_764 (by decide) ?_
      refine J.iincN 6 (K := (6 : Int32)) (lv' := fun y3184 => [(4, .int y3184), (6, .int r731), (5, .int r713), (0, .ref 69), (1, .ref x1), (2, .ref x2), (3, .ref x3)]) dL_law_3184 rfl (by decide) (by decide) (fun _ => rfl) hw ?_
      clear hw
      intro y3184 hw
      refine J.goto 23 dL_law_3187 (by decide) ?_
      exact J.pick [3, 4, 5, 6, 0] rfl (hK23 _ _ _ _ _ _ _ _ _ hw)
    · obtain ⟨-, hw⟩ := hw
      specialize hw c749
      refine J.aload_n 5 dL_law_752 rfl ?_
      refine J.iconst (v := (0 : Int32)) dL_law_753 (by decide) ?_
      obtain ⟨f754, hk754, hn754, hw⟩ := hw
      refine JV.lald0 dL_law_754 hn754 hk754 ?_
      refine J.iload 0 dL_law_755 rfl ?_
      refine J.i2l dL_law_757 ?_
      refine J.lcmp dL_law_758 ?_
      refine J.if_eq 764 dL_law_759 (by decide) ⟨fun c759 => ?_, fun c759 => ?_⟩
      · obtain ⟨hw, -⟩ := hw
        specialize hw c759
        refine J.goto 3184 dL_law_764 (by decide) ?_
        refine J.iincN 6 (K := (6 : Int32)) (lv' := fun y3184 => [(4, .int y3184), (6, .int r731), (5, .int r713), (0, .ref 69), (1, .ref x1), (2, .ref x2), (3, .ref x3)]) dL_law_3184 rfl (by decide) (by decide) (fun _ => rfl) hw ?_
        clear hw
        intro y3184 hw
        refine J.goto 23 dL_law_3187 (by decide) ?_
        exact J.pick [3, 4, 5, 6, 0] rfl (hK23 _ _ _ _ _ _ _ _ _ hw)
      · obtain ⟨-, hw⟩ := hw
        specialize hw c759
        refine J.iconst (v := (0 : Int32)) dL_law_762 (by decide) ?_
        exact J.zret rfl rfl dL_law_763 ⟨_, _, _, rfl, _, rfl, hw⟩
  · obtain ⟨-, hw⟩ := hw
    specialize hw c742
    refine J.iconst (v := (0 : Int32)) dL_law_745 (by decide) ?_
    exact J.zret rfl rfl dL_law_746 ⟨_, _, _, rfl, _, rfl, hw⟩
def wL_law_845 (G : jG) (Q : Int32 → List jH → (Nat → Nat → Int32) → (Nat → Nat → Option Nat) → Prop) (K23 : List jH → (Nat → Nat → Int32) → (Nat → Nat → Option Nat) → Nat → Nat → Nat → Nat → Nat → Int32 → Prop) (sh : List jH) (V : Nat → Nat → Int32) (R : Nat → Nat → Option Nat) (c : Nat) (n : Nat) (x1 : Nat) (x2 : Nat) (x3 : Nat) (x4 : Int32) (s0 : Int64) (s1 : Int64) : Prop :=
  (((lg_cmp s0 s1) = 0 → (∀ y3184 : Int32, y3184 = x4 + (6 : Int32) → K23 sh V R c n x1 x2 x3 y3184)) ∧ (¬ (lg_cmp s0 s1) = 0 → Q (0 : Int32) sh V R))
theorem rL_law_845 {G : jG} {l : Launch} {d : Nat} (htr : l.stackTraces = false) (hdd : 107 ≤ d) {Q : Int32 → List jH → (Nat → Nat → Int32) → (Nat → Nat → Option Nat) → Prop} {K23 : List jH → (Nat → Nat → Int32) → (Nat → Nat → Option Nat) → Nat → Nat → Nat → Nat → Nat → Int32 → Prop} (hK23 : ∀ (sh : List jH) (V : Nat → Nat → Int32) (R : Nat → Nat → Option Nat) (c : Nat) (n : Nat) (x1 : Nat) (x2 : Nat) (x3 : Nat) (x4 : Int32), K23 sh V R c n x1 x2 x3 x4 → J G l ML_law d c n 23 [(0, .ref 69), (1, .ref x1), (2, .ref x2), (3, .ref x3), (4, .int x4)] [] (mk sh V R) (jSr Q) jNo) {sh : List jH} {V : Nat → Nat → Int32} {R : Nat → Nat → Option Nat} {c : Nat} {n : Nat} {x1 : Nat} {x2 : Nat} {x3 : Nat} {x4 : Int32} {s0 : Int64} {s1 : Int64} (hw : wL_law_845 G Q K23 sh V R c n x1 x2 x3 x4 s0 s1) : J G l ML_law d c n 845 [(0, .ref 69), (1, .ref x1), (2, .ref x2), (3, .ref x3), (4, .int x4)] [.long s1, .long s0] (mk sh V R) (jSr Q) jNo := by
  unfold wL_law_845 at hw
  refine J.lcmp dL_law_845 ?_
  refine J.if_eq 851 dL_law_846 (by decide) ⟨fun c846 => ?_, fun c846 => ?_⟩
  · obtain ⟨hw, -⟩ := hw
    specialize hw c846
    refine J.goto 3184 dL_law_851 (by decide) ?_
    refine J.iincN 4 (K := (6 : Int32)) (lv' := fun y3184 => [(4, .int y3184), (0, .ref 69), (1, .ref x1), (2, .ref x2), (3, .ref x3)]) dL_law_3184 rfl (by decide) (by decide) (fun _ => rfl) hw ?_
    clear hw
    intro y3184 hw
    refine J.goto 23 dL_law_3187 (by decide) ?_
    exact J.pick [1, 2, 3, 4, 0] rfl (hK23 _ _ _ _ _ _ _ _ _ hw)
  · obtain ⟨-, hw⟩ := hw
    specialize hw c846
    refine J.iconst (v := (0 : Int32)) dL_law_849 (by decide) ?_
    exact J.zret rfl rfl dL_law_850 ⟨_, _, _, rfl, _, rfl, hw⟩
def wL_law_767 (G : jG) (Q : Int32 → List jH → (Nat → Nat → Int32) → (Nat → Nat → Option Nat) → Prop) (K23 : List jH → (Nat → Nat → Int32) → (Nat → Nat → Option Nat) → Nat → Nat → Nat → Nat → Nat → Int32 → Prop) (sh : List jH) (V : Nat → Nat → Int32) (R : Nat → Nat → Option Nat) (c : Nat) (n : Nat) (x1 : Nat) (x2 : Nat) (x3 : Nat) (x4 : Int32) : Prop :=
  (vp_in (x4 + (1 : Int32)) (jScN G) ∧ (vp_in (x4 + (2 : Int32)) (jScN G) ∧ (vp_in (x4 + (3 : Int32)) (jScN G) ∧ (jReg shX1 sh x1 ∧ (∃ c1787 n1787 c2787 n2787 : Nat, c1787 + c2787 ≤ c ∧ n1787 + n2787 ≤ n ∧ (wX0_can x1 sh V R c1787 n1787 (jScF G (x4 + (1 : Int32)).toNatClampNeg) (jScF G (x4 + (2 : Int32)).toNatClampNeg) (jScF G (x4 + (3 : Int32)).toNatClampNeg) x3 (fun r787 sh787 V787 R787 => (vp_in (x4 + (1 : Int32)) (jScN G) ∧ (vp_in (x4 + (2 : Int32)) (jScN G) ∧ (vp_in (x4 + (3 : Int32)) (jScN G) ∧ (jReg shX6 sh787 x2 ∧ (wX6_can x2 V787 (jScF G (x4 + (1 : Int32)).toNatClampNeg) (jScF G (x4 + (2 : Int32)).toNatClampNeg) (jScF G (x4 + (3 : Int32)).toNatClampNeg) (fun r811 V811 => (jReg shX6 sh787 x2 ∧ (wX6_thrown x2 V811 (fun r817 => ((r817 = r787 → ((¬ r787 = 0 → (∀ y3184 : Int32, y3184 = x4 + (6 : Int32) → K23 sh787 V811 R787 c2787 n2787 x1 x2 x3 y3184)) ∧ (r787 = 0 → (∃ f834 : Nat → Int64, sh787[x3]? = some (jF (.inl (3, 1, .inr (.inl f834)))) ∧ jn ≤ x3 ∧ ((r811 = 0 → wL_law_845 G Q K23 sh787 V811 R787 c2787 n2787 x1 x2 x3 x4 (f834 0) (0 : Int64)) ∧ (¬ r811 = 0 → wL_law_845 G Q K23 sh787 V811 R787 c2787 n2787 x1 x2 x3 x4 (f834 0) (1 : Int64))))))) ∧ (¬ r817 = r787 → Q (0 : Int32) sh787 V811 R787))))))))))))))))))
theorem rL_law_767 {G : jG} {l : Launch} {d : Nat} (htr : l.stackTraces = false) (hdd : 107 ≤ d) {Q : Int32 → List jH → (Nat → Nat → Int32) → (Nat → Nat → Option Nat) → Prop} {K23 : List jH → (Nat → Nat → Int32) → (Nat → Nat → Option Nat) → Nat → Nat → Nat → Nat → Nat → Int32 → Prop} (hK23 : ∀ (sh : List jH) (V : Nat → Nat → Int32) (R : Nat → Nat → Option Nat) (c : Nat) (n : Nat) (x1 : Nat) (x2 : Nat) (x3 : Nat) (x4 : Int32), K23 sh V R c n x1 x2 x3 x4 → J G l ML_law d c n 23 [(0, .ref 69), (1, .ref x1), (2, .ref x2), (3, .ref x3), (4, .int x4)] [] (mk sh V R) (jSr Q) jNo) {sh : List jH} {V : Nat → Nat → Int32} {R : Nat → Nat → Option Nat} {c : Nat} {n : Nat} {x1 : Nat} {x2 : Nat} {x3 : Nat} {x4 : Int32} (hw : wL_law_767 G Q K23 sh V R c n x1 x2 x3 x4) : J G l ML_law d c n 767 [(0, .ref 69), (1, .ref x1), (2, .ref x2), (3, .ref x3), (4, .int x4)] [] (mk sh V R) (jSr Q) jNo := by
  unfold wL_law_767 at hw
  refine J.aload_n 1 dL_law_767 rfl ?_
  refine J.aload_n 0 dL_law_768 rfl ?_
  refine J.iload 4 dL_law_769 rfl ?_
  refine J.iconst (v := (1 : Int32)) dL_law_771 (by decide) ?_
  refine J.iadd dL_law_772 ?_
  obtain ⟨h773, hw⟩ := hw
  refine J.sld dL_law_773 h773 ?_
  refine J.aload_n 0 dL_law_774 rfl ?_
  refine J.iload 4 dL_law_775 rfl ?_
  refine J.iconst (v := (2 : Int32)) dL_law_777 (by decide) ?_
  refine J.iadd dL_law_778 ?_
  obtain ⟨h779, hw⟩ := hw
  refine J.sld dL_law_779 h779 ?_
  refine J.aload_n 0 dL_law_780 rfl ?_
  refine J.iload 4 dL_law_781 rfl ?_
  refine J.iconst (v := (3 : Int32)) dL_law_783 (by decide) ?_
  refine J.iadd dL_law_784 ?_
  obtain ⟨h785, hw⟩ := hw
  refine J.sld dL_law_785 h785 ?_
  refine J.aload_n 3 dL_law_786 rfl ?_
  obtain ⟨hq787_x1, hw⟩ := hw
  obtain ⟨c1787, n1787, c2787, n2787, hc787, hd787, hw⟩ := hw
  refine uL_183 rfl htr hq787_x1 dL_law_787 (by omega) (Nat.le_of_ble_eq_true rfl) hw ⟨hc787, hd787⟩ ?_
  clear hw
  intro r787 sh787 V787 R787 hw
  refine J.istore (lv' := [(5, .int r787), (0, .ref 69), (1, .ref x1), (2, .ref x2), (3, .ref x3), (4, .int x4)]) dL_law_790 (by decide) rfl ?_
  refine J.aload_n 3 dL_law_792 rfl ?_
  refine J.aload_n 1 dL_law_793 rfl ?_
  refine J.iload 5 dL_law_794 rfl ?_
  refine J.iconst (v := (1 : Int32)) dL_law_796 (by decide) ?_
  refine J.iadd dL_law_797 ?_
  obtain ⟨h798, hw⟩ := hw
  refine J.sld dL_law_798 h798 ?_
  refine J.aload_n 1 dL_law_799 rfl ?_
  refine J.iload 5 dL_law_800 rfl ?_
  refine J.iconst (v := (2 : Int32)) dL_law_802 (by decide) ?_
  refine J.iadd dL_law_803 ?_
  obtain ⟨h804, hw⟩ := hw
  refine J.sld dL_law_804 h804 ?_
  refine J.aload_n 1 dL_law_805 rfl ?_
  refine J.iload 5 dL_law_806 rfl ?_
  refine J.iconst (v := (3 : Int32)) dL_law_808 (by decide) ?_
  refine J.iadd dL_law_809 ?_
  obtain ⟨h810, hw⟩ := hw
  refine J.sld dL_law_810 h810 ?_
  obtain ⟨hq811_x2, hw⟩ := hw
  refine uL_186 rfl htr hq811_x2 dL_law_811 (by omega) (Nat.le_of_ble_eq_true rfl) hw ?_
  clear hw
  intro r811 V811 hw
  refine J.istore (lv' := [(6, .int r811), (5, .int r787), (0, .ref 69), (1, .ref x1), (2, .ref x2), (3, .ref x3), (4, .int x4)]) dL_law_814 (by decide) rfl ?_
  refine J.aload_n 4 dL_law_816 rfl ?_
  obtain ⟨hq817_x2, hw⟩ := hw
  refine uL_159 rfl htr hq817_x2 dL_law_817 (by omega) (Nat.le_of_ble_eq_true rfl) hw ?_
  clear hw
  intro r817 hw
  refine J.iload 1 dL_law_820 rfl ?_
  refine J.icmp_eq 827 dL_law_822 (by decide) ⟨fun c822 => ?_, fun c822 => ?_⟩
  · obtain ⟨hw, -⟩ := hw
    specialize hw c822
    refine J.iload 1 dL_law_827 rfl ?_
    refine J.if_ne 851 dL_law_829 (by decide) ⟨fun c829 => ?_, fun c829 => ?_⟩
    · obtain ⟨hw, -⟩ := hw
      specialize hw c829
      refine J.goto 3184 dL_law_851 (by decide) ?_
      refine J.iincN 6 (K := (6 : Int32)) (lv' := fun y3184 => [(4, .int y3184), (6, .int r811), (5, .int r787), (0, .ref 69), (1, .ref x1), (2, .ref x2), (3, .ref x3)]) dL_law_3184 rfl (by decide) (by decide) (fun _ => rfl) hw ?_
      clear hw
      intro y3184 hw
      refine J.goto 23 dL_law_3187 (by decide) ?_
      exact J.pick [3, 4, 5, 6, 0] rfl (hK23 _ _ _ _ _ _ _ _ _ hw)
    · obtain ⟨-, hw⟩ := hw
      specialize hw c829
      refine J.aload_n 5 dL_law_832 rfl ?_
      refine J.iconst (v := (0 : Int32)) dL_law_833 (by decide) ?_
      obtain ⟨f834, hk834, hn834, hw⟩ := hw
      refine JV.lald0 dL_law_834 hn834 hk834 ?_
      refine J.iload 0 dL_law_835 rfl ?_
      refine J.if_eq 844 dL_law_837 (by decide) ⟨fun c837 => ?_, fun c837 => ?_⟩
      · obtain ⟨hw, -⟩ := hw
        specialize hw c837
        refine J.lconst (v := (0 : Int64)) dL_law_844 (by decide) ?_
        exact J.pick [2, 3, 4, 5, 6] rfl (rL_law_845 htr hdd hK23 hw)
      · obtain ⟨-, hw⟩ := hw
        specialize hw c837
        refine J.lconst (v := (1 : Int64)) dL_law_840 (by decide) ?_
        refine J.goto 845 dL_law_841 (by decide) ?_
        exact J.pick [2, 3, 4, 5, 6] rfl (rL_law_845 htr hdd hK23 hw)
  · obtain ⟨-, hw⟩ := hw
    specialize hw c822
    refine J.iconst (v := (0 : Int32)) dL_law_825 (by decide) ?_
    exact J.zret rfl rfl dL_law_826 ⟨_, _, _, rfl, _, rfl, hw⟩
def wL_law_932 (G : jG) (Q : Int32 → List jH → (Nat → Nat → Int32) → (Nat → Nat → Option Nat) → Prop) (K23 : List jH → (Nat → Nat → Int32) → (Nat → Nat → Option Nat) → Nat → Nat → Nat → Nat → Nat → Int32 → Prop) (sh : List jH) (V : Nat → Nat → Int32) (R : Nat → Nat → Option Nat) (c : Nat) (n : Nat) (x1 : Nat) (x2 : Nat) (x3 : Nat) (x4 : Int32) (s0 : Int64) (s1 : Int64) : Prop :=
  (((lg_cmp s0 s1) = 0 → (∀ y3184 : Int32, y3184 = x4 + (6 : Int32) → K23 sh V R c n x1 x2 x3 y3184)) ∧ (¬ (lg_cmp s0 s1) = 0 → Q (0 : Int32) sh V R))
theorem rL_law_932 {G : jG} {l : Launch} {d : Nat} (htr : l.stackTraces = false) (hdd : 107 ≤ d) {Q : Int32 → List jH → (Nat → Nat → Int32) → (Nat → Nat → Option Nat) → Prop} {K23 : List jH → (Nat → Nat → Int32) → (Nat → Nat → Option Nat) → Nat → Nat → Nat → Nat → Nat → Int32 → Prop} (hK23 : ∀ (sh : List jH) (V : Nat → Nat → Int32) (R : Nat → Nat → Option Nat) (c : Nat) (n : Nat) (x1 : Nat) (x2 : Nat) (x3 : Nat) (x4 : Int32), K23 sh V R c n x1 x2 x3 x4 → J G l ML_law d c n 23 [(0, .ref 69), (1, .ref x1), (2, .ref x2), (3, .ref x3), (4, .int x4)] [] (mk sh V R) (jSr Q) jNo) {sh : List jH} {V : Nat → Nat → Int32} {R : Nat → Nat → Option Nat} {c : Nat} {n : Nat} {x1 : Nat} {x2 : Nat} {x3 : Nat} {x4 : Int32} {s0 : Int64} {s1 : Int64} (hw : wL_law_932 G Q K23 sh V R c n x1 x2 x3 x4 s0 s1) : J G l ML_law d c n 932 [(0, .ref 69), (1, .ref x1), (2, .ref x2), (3, .ref x3), (4, .int x4)] [.long s1, .long s0] (mk sh V R) (jSr Q) jNo := by
  unfold wL_law_932 at hw
  refine J.lcmp dL_law_932 ?_
  refine J.if_eq 938 dL_law_933 (by decide) ⟨fun c933 => ?_, fun c933 => ?_⟩
  · obtain ⟨hw, -⟩ := hw
    specialize hw c933
    refine J.goto 3184 dL_law_938 (by decide) ?_
    refine J.iincN 4 (K := (6 : Int32)) (lv' := fun y3184 => [(4, .int y3184), (0, .ref 69), (1, .ref x1), (2, .ref x2), (3, .ref x3)]) dL_law_3184 rfl (by decide) (by decide) (fun _ => rfl) hw ?_
    clear hw
    intro y3184 hw
    refine J.goto 23 dL_law_3187 (by decide) ?_
    exact J.pick [1, 2, 3, 4, 0] rfl (hK23 _ _ _ _ _ _ _ _ _ hw)
  · obtain ⟨-, hw⟩ := hw
    specialize hw c933
    refine J.iconst (v := (0 : Int32)) dL_law_936 (by decide) ?_
    exact J.zret rfl rfl dL_law_937 ⟨_, _, _, rfl, _, rfl, hw⟩
def wL_law_854 (G : jG) (Q : Int32 → List jH → (Nat → Nat → Int32) → (Nat → Nat → Option Nat) → Prop) (K23 : List jH → (Nat → Nat → Int32) → (Nat → Nat → Option Nat) → Nat → Nat → Nat → Nat → Nat → Int32 → Prop) (sh : List jH) (V : Nat → Nat → Int32) (R : Nat → Nat → Option Nat) (c : Nat) (n : Nat) (x1 : Nat) (x2 : Nat) (x3 : Nat) (x4 : Int32) : Prop :=
  (vp_in (x4 + (1 : Int32)) (jScN G) ∧ (vp_in (x4 + (2 : Int32)) (jScN G) ∧ (vp_in (x4 + (3 : Int32)) (jScN G) ∧ (jReg shX1 sh x1 ∧ (∃ c1874 n1874 c2874 n2874 : Nat, c1874 + c2874 ≤ c ∧ n1874 + n2874 ≤ n ∧ (wX0_lets x1 sh V R c1874 n1874 (jScF G (x4 + (1 : Int32)).toNatClampNeg) (jScF G (x4 + (2 : Int32)).toNatClampNeg) (jScF G (x4 + (3 : Int32)).toNatClampNeg) x3 (fun r874 sh874 V874 R874 => (vp_in (x4 + (1 : Int32)) (jScN G) ∧ (vp_in (x4 + (2 : Int32)) (jScN G) ∧ (vp_in (x4 + (3 : Int32)) (jScN G) ∧ (jReg shX6 sh874 x2 ∧ (wX6_lets x2 sh874 R874 V874 (jScF G (x4 + (1 : Int32)).toNatClampNeg) (jScF G (x4 + (2 : Int32)).toNatClampNeg) (jScF G (x4 + (3 : Int32)).toNatClampNeg) (fun r898 V898 => (jReg shX6 sh874 x2 ∧ (wX6_thrown x2 V898 (fun r904 => ((r904 = r874 → ((¬ r874 = 0 → (∀ y3184 : Int32, y3184 = x4 + (6 : Int32) → K23 sh874 V898 R874 c2874 n2874 x1 x2 x3 y3184)) ∧ (r874 = 0 → (∃ f921 : Nat → Int64, sh874[x3]? = some (jF (.inl (3, 1, .inr (.inl f921)))) ∧ jn ≤ x3 ∧ ((r898 = 0 → wL_law_932 G Q K23 sh874 V898 R874 c2874 n2874 x1 x2 x3 x4 (f921 0) (0 : Int64)) ∧ (¬ r898 = 0 → wL_law_932 G Q K23 sh874 V898 R874 c2874 n2874 x1 x2 x3 x4 (f921 0) (1 : Int64))))))) ∧ (¬ r904 = r874 → Q (0 : Int32) sh874 V898 R874))))))))))))))))))
theorem rL_law_854 {G : jG} {l : Launch} {d : Nat} (htr : l.stackTraces = false) (hdd : 107 ≤ d) {Q : Int32 → List jH → (Nat → Nat → Int32) → (Nat → Nat → Option Nat) → Prop} {K23 : List jH → (Nat → Nat → Int32) → (Nat → Nat → Option Nat) → Nat → Nat → Nat → Nat → Nat → Int32 → Prop} (hK23 : ∀ (sh : List jH) (V : Nat → Nat → Int32) (R : Nat → Nat → Option Nat) (c : Nat) (n : Nat) (x1 : Nat) (x2 : Nat) (x3 : Nat) (x4 : Int32), K23 sh V R c n x1 x2 x3 x4 → J G l ML_law d c n 23 [(0, .ref 69), (1, .ref x1), (2, .ref x2), (3, .ref x3), (4, .int x4)] [] (mk sh V R) (jSr Q) jNo) {sh : List jH} {V : Nat → Nat → Int32} {R : Nat → Nat → Option Nat} {c : Nat} {n : Nat} {x1 : Nat} {x2 : Nat} {x3 : Nat} {x4 : Int32} (hw : wL_law_854 G Q K23 sh V R c n x1 x2 x3 x4) : J G l ML_law d c n 854 [(0, .ref 69), (1, .ref x1), (2, .ref x2), (3, .ref x3), (4, .int x4)] [] (mk sh V R) (jSr Q) jNo := by
  unfold wL_law_854 at hw
  refine J.aload_n 1 dL_law_854 rfl ?_
  refine J.aload_n 0 dL_law_855 rfl ?_
  refine J.iload 4 dL_law_856 rfl ?_
  refine J.iconst (v := (1 : Int32)) dL_law_858 (by decide) ?_
  refine J.iadd dL_law_859 ?_
  obtain ⟨h860, hw⟩ := hw
  refine J.sld dL_law_860 h860 ?_
  refine J.aload_n 0 dL_law_861 rfl ?_
  refine J.iload 4 dL_law_862 rfl ?_
  refine J.iconst (v := (2 : Int32)) dL_law_864 (by decide) ?_
  refine J.iadd dL_law_865 ?_
  obtain ⟨h866, hw⟩ := hw
  refine J.sld dL_law_866 h866 ?_
  refine J.aload_n 0 dL_law_867 rfl ?_
  refine J.iload 4 dL_law_868 rfl ?_
  refine J.iconst (v := (3 : Int32)) dL_law_870 (by decide) ?_
  refine J.iadd dL_law_871 ?_
  obtain ⟨h872, hw⟩ := hw
  refine J.sld dL_law_872 h872 ?_
  refine J.aload_n 3 dL_law_873 rfl ?_
  obtain ⟨hq874_x1, hw⟩ := hw
  obtain ⟨c1874, n1874, c2874, n2874, hc874, hd874, hw⟩ := hw
  refine uL_187 rfl htr hq874_x1 dL_law_874 (by omega) (Nat.le_of_ble_eq_true rfl) hw ⟨hc874, hd874⟩ ?_
  clear hw
  intro r874 sh874 V874 R874 hw
  refine J.istore (lv' := [(5, .int r874), (0, .ref 69), (1, .ref x1), (2, .ref x2), (3, .ref x3), (4, .int x4)]) dL_law_877 (by decide) rfl ?_
  refine J.aload_n 3 dL_law_879 rfl ?_
  refine J.aload_n 1 dL_law_880 rfl ?_
  refine J.iload 5 dL_law_881 rfl ?_
  refine J.iconst (v := (1 : Int32)) dL_law_883 (by decide) ?_
  refine J.iadd dL_law_884 ?_
  obtain ⟨h885, hw⟩ := hw
  refine J.sld dL_law_885 h885 ?_
  refine J.aload_n 1 dL_law_886 rfl ?_
  refine J.iload 5 dL_law_887 rfl ?_
  refine J.iconst (v := (2 : Int32)) dL_law_889 (by decide) ?_
  refine J.iadd dL_law_890 ?_
  obtain ⟨h891, hw⟩ := hw
  refine J.sld dL_law_891 h891 ?_
  refine J.aload_n 1 dL_law_892 rfl ?_
  refine J.iload 5 dL_law_893 rfl ?_
  refine J.iconst (v := (3 : Int32)) dL_law_895 (by decide) ?_
  refine J.iadd dL_law_896 ?_
  obtain ⟨h897, hw⟩ := hw
  refine J.sld dL_law_897 h897 ?_
  obtain ⟨hq898_x2, hw⟩ := hw
  refine uL_189 rfl htr hq898_x2 dL_law_898 (by omega) (Nat.le_of_ble_eq_true rfl) hw ?_
  clear hw
  intro r898 V898 hw
  refine J.istore (lv' := [(6, .int r898), (5, .int r874), (0, .ref 69), (1, .ref x1), (2, .ref x2), (3, .ref x3), (4, .int x4)]) dL_law_901 (by decide) rfl ?_
  refine J.aload_n 4 dL_law_903 rfl ?_
  obtain ⟨hq904_x2, hw⟩ := hw
  refine uL_159 rfl htr hq904_x2 dL_law_904 (by omega) (Nat.le_of_ble_eq_true rfl) hw ?_
  clear hw
  intro r904 hw
  refine J.iload 1 dL_law_907 rfl ?_
  refine J.icmp_eq 914 dL_law_909 (by decide) ⟨fun c909 => ?_, fun c909 => ?_⟩
  · obtain ⟨hw, -⟩ := hw
    specialize hw c909
    refine J.iload 1 dL_law_914 rfl ?_
    refine J.if_ne 938 dL_law_916 (by decide) ⟨fun c916 => ?_, fun c916 => ?_⟩
    · obtain ⟨hw, -⟩ := hw
      specialize hw c916
      refine J.goto 3184 dL_law_938 (by decide) ?_
      refine J.iincN 6 (K := (6 : Int32)) (lv' := fun y3184 => [(4, .int y3184), (6, .int r898), (5, .int r874), (0, .ref 69), (1, .ref x1), (2, .ref x2), (3, .ref x3)]) dL_law_3184 rfl (by decide) (by decide) (fun _ => rfl) hw ?_
      clear hw
      intro y3184 hw
      refine J.goto 23 dL_law_3187 (by decide) ?_
      exact J.pick [3, 4, 5, 6, 0] rfl (hK23 _ _ _ _ _ _ _ _ _ hw)
    · obtain ⟨-, hw⟩ := hw
      specialize hw c916
      refine J.aload_n 5 dL_law_919 rfl ?_
      refine J.iconst (v := (0 : Int32)) dL_law_920 (by decide) ?_
      obtain ⟨f921, hk921, hn921, hw⟩ := hw
      refine JV.lald0 dL_law_921 hn921 hk921 ?_
      refine J.iload 0 dL_law_922 rfl ?_
      refine J.if_eq 931 dL_law_924 (by decide) ⟨fun c924 => ?_, fun c924 => ?_⟩
      · obtain ⟨hw, -⟩ := hw
        specialize hw c924
        refine J.lconst (v := (0 : Int64)) dL_law_931 (by decide) ?_
        exact J.pick [2, 3, 4, 5, 6] rfl (rL_law_932 htr hdd hK23 hw)
      · obtain ⟨-, hw⟩ := hw
        specialize hw c924
        refine J.lconst (v := (1 : Int64)) dL_law_927 (by decide) ?_
        refine J.goto 932 dL_law_928 (by decide) ?_
        exact J.pick [2, 3, 4, 5, 6] rfl (rL_law_932 htr hdd hK23 hw)
  · obtain ⟨-, hw⟩ := hw
    specialize hw c909
    refine J.iconst (v := (0 : Int32)) dL_law_912 (by decide) ?_
    exact J.zret rfl rfl dL_law_913 ⟨_, _, _, rfl, _, rfl, hw⟩
def wL_law_941 (G : jG) (Q : Int32 → List jH → (Nat → Nat → Int32) → (Nat → Nat → Option Nat) → Prop) (K23 : List jH → (Nat → Nat → Int32) → (Nat → Nat → Option Nat) → Nat → Nat → Nat → Nat → Nat → Int32 → Prop) (sh : List jH) (V : Nat → Nat → Int32) (R : Nat → Nat → Option Nat) (c : Nat) (n : Nat) (x1 : Nat) (x2 : Nat) (x3 : Nat) (x4 : Int32) : Prop :=
  (vp_in (x4 + (1 : Int32)) (jScN G) ∧ (vp_in (x4 + (2 : Int32)) (jScN G) ∧ (vp_in (x4 + (3 : Int32)) (jScN G) ∧ (jReg shX1 sh x1 ∧ (∃ c1961 n1961 c2961 n2961 : Nat, c1961 + c2961 ≤ c ∧ n1961 + n2961 ≤ n ∧ (wX0_joy x1 sh V R c1961 n1961 (jScF G (x4 + (1 : Int32)).toNatClampNeg) (jScF G (x4 + (2 : Int32)).toNatClampNeg) (jScF G (x4 + (3 : Int32)).toNatClampNeg) x3 (fun r961 sh961 V961 R961 => (vp_in (x4 + (1 : Int32)) (jScN G) ∧ (vp_in (x4 + (2 : Int32)) (jScN G) ∧ (vp_in (x4 + (3 : Int32)) (jScN G) ∧ (jReg shX6 sh961 x2 ∧ (wX6_joy x2 sh961 R961 V961 (jScF G (x4 + (1 : Int32)).toNatClampNeg) (jScF G (x4 + (2 : Int32)).toNatClampNeg) (jScF G (x4 + (3 : Int32)).toNatClampNeg) (fun r985 V985 => (jReg shX6 sh961 x2 ∧ (wX6_thrown x2 V985 (fun r991 => ((r991 = r961 → ((¬ r961 = 0 → (∀ y3184 : Int32, y3184 = x4 + (6 : Int32) → K23 sh961 V985 R961 c2961 n2961 x1 x2 x3 y3184)) ∧ (r961 = 0 → (∃ f1008 : Nat → Int64, sh961[x3]? = some (jF (.inl (3, 1, .inr (.inl f1008)))) ∧ jn ≤ x3 ∧ (((lg_cmp (f1008 0) r985.toInt64) = 0 → (∀ y3184 : Int32, y3184 = x4 + (6 : Int32) → K23 sh961 V985 R961 c2961 n2961 x1 x2 x3 y3184)) ∧ (¬ (lg_cmp (f1008 0) r985.toInt64) = 0 → Q (0 : Int32) sh961 V985 R961)))))) ∧ (¬ r991 = r961 → Q (0 : Int32) sh961 V985 R961))))))))))))))))))
theorem rL_law_941 {G : jG} {l : Launch} {d : Nat} (htr : l.stackTraces = false) (hdd : 107 ≤ d) {Q : Int32 → List jH → (Nat → Nat → Int32) → (Nat → Nat → Option Nat) → Prop} {K23 : List jH → (Nat → Nat → Int32) → (Nat → Nat → Option Nat) → Nat → Nat → Nat → Nat → Nat → Int32 → Prop} (hK23 : ∀ (sh : List jH) (V : Nat → Nat → Int32) (R : Nat → Nat → Option Nat) (c : Nat) (n : Nat) (x1 : Nat) (x2 : Nat) (x3 : Nat) (x4 : Int32), K23 sh V R c n x1 x2 x3 x4 → J G l ML_law d c n 23 [(0, .ref 69), (1, .ref x1), (2, .ref x2), (3, .ref x3), (4, .int x4)] [] (mk sh V R) (jSr Q) jNo) {sh : List jH} {V : Nat → Nat → Int32} {R : Nat → Nat → Option Nat} {c : Nat} {n : Nat} {x1 : Nat} {x2 : Nat} {x3 : Nat} {x4 : Int32} (hw : wL_law_941 G Q K23 sh V R c n x1 x2 x3 x4) : J G l ML_law d c n 941 [(0, .ref 69), (1, .ref x1), (2, .ref x2), (3, .ref x3), (4, .int x4)] [] (mk sh V R) (jSr Q) jNo := by
  unfold wL_law_941 at hw
  refine J.aload_n 1 dL_law_941 rfl ?_
  refine J.aload_n 0 dL_law_942 rfl ?_
  refine J.iload 4 dL_law_943 rfl ?_
  refine J.iconst (v := (1 : Int32)) dL_law_945 (by decide) ?_
  refine J.iadd dL_law_946 ?_
  obtain ⟨h947, hw⟩ := hw
  refine J.sld dL_law_947 h947 ?_
  refine J.aload_n 0 dL_law_948 rfl ?_
  refine J.iload 4 dL_law_949 rfl ?_
  refine J.iconst (v := (2 : Int32)) dL_law_951 (by decide) ?_
  refine J.iadd dL_law_952 ?_
  obtain ⟨h953, hw⟩ := hw
  refine J.sld dL_law_953 h953 ?_
  refine J.aload_n 0 dL_law_954 rfl ?_
  refine J.iload 4 dL_law_955 rfl ?_
  refine J.iconst (v := (3 : Int32)) dL_law_957 (by decide) ?_
  refine J.iadd dL_law_958 ?_
  obtain ⟨h959, hw⟩ := hw
  refine J.sld dL_law_959 h959 ?_
  refine J.aload_n 3 dL_law_960 rfl ?_
  obtain ⟨hq961_x1, hw⟩ := hw
  obtain ⟨c1961, n1961, c2961, n2961, hc961, hd961, hw⟩ := hw
  refine uL_190 rfl htr hq961_x1 dL_law_961 (by omega) (Nat.le_of_ble_eq_true rfl) hw ⟨hc961, hd961⟩ ?_
  clear hw
  intro r961 sh961 V961 R961 hw
  refine J.istore (lv' := [(5, .int r961), (0, .ref 69), (1, .ref x1), (2, .ref x2), (3, .ref x3), (4, .int x4)]) dL_law_964 (by decide) rfl ?_
  refine J.aload_n 3 dL_law_966 rfl ?_
  refine J.aload_n 1 dL_law_967 rfl ?_
  refine J.iload 5 dL_law_968 rfl ?_
  refine J.iconst (v := (1 : Int32)) dL_law_970 (by decide) ?_
  refine J.iadd dL_law_971 ?_
  obtain ⟨h972, hw⟩ := hw
  refine J.sld dL_law_972 h972 ?_
  refine J.aload_n 1 dL_law_973 rfl ?_
  refine J.iload 5 dL_law_974 rfl ?_
  refine J.iconst (v := (2 : Int32)) dL_law_976 (by decide) ?_
  refine J.iadd dL_law_977 ?_
  obtain ⟨h978, hw⟩ := hw
  refine J.sld dL_law_978 h978 ?_
  refine J.aload_n 1 dL_law_979 rfl ?_
  refine J.iload 5 dL_law_980 rfl ?_
  refine J.iconst (v := (3 : Int32)) dL_law_982 (by decide) ?_
  refine J.iadd dL_law_983 ?_
  obtain ⟨h984, hw⟩ := hw
  refine J.sld dL_law_984 h984 ?_
  obtain ⟨hq985_x2, hw⟩ := hw
  refine uL_192 rfl htr hq985_x2 dL_law_985 (by omega) (Nat.le_of_ble_eq_true rfl) hw ?_
  clear hw
  intro r985 V985 hw
  refine J.istore (lv' := [(6, .int r985), (5, .int r961), (0, .ref 69), (1, .ref x1), (2, .ref x2), (3, .ref x3), (4, .int x4)]) dL_law_988 (by decide) rfl ?_
  refine J.aload_n 4 dL_law_990 rfl ?_
  obtain ⟨hq991_x2, hw⟩ := hw
  refine uL_159 rfl htr hq991_x2 dL_law_991 (by omega) (Nat.le_of_ble_eq_true rfl) hw ?_
  clear hw
  intro r991 hw
  refine J.iload 1 dL_law_994 rfl ?_
  refine J.icmp_eq 1001 dL_law_996 (by decide) ⟨fun c996 => ?_, fun c996 => ?_⟩
  · obtain ⟨hw, -⟩ := hw
    specialize hw c996
    refine J.iload 1 dL_law_1001 rfl ?_
    refine J.if_ne 1018 dL_law_1003 (by decide) ⟨fun c1003 => ?_, fun c1003 => ?_⟩
    · obtain ⟨hw, -⟩ := hw
      specialize hw c1003
      refine J.goto 3184 dL_law_1018 (by decide) ?_
      refine J.iincN 6 (K := (6 : Int32)) (lv' := fun y3184 => [(4, .int y3184), (6, .int r985), (5, .int r961), (0, .ref 69), (1, .ref x1), (2, .ref x2), (3, .ref x3)]) dL_law_3184 rfl (by decide) (by decide) (fun _ => rfl) hw ?_
      clear hw
      intro y3184 hw
      refine J.goto 23 dL_law_3187 (by decide) ?_
      exact J.pick [3, 4, 5, 6, 0] rfl (hK23 _ _ _ _ _ _ _ _ _ hw)
    · obtain ⟨-, hw⟩ := hw
      specialize hw c1003
      refine J.aload_n 5 dL_law_1006 rfl ?_
      refine J.iconst (v := (0 : Int32)) dL_law_1007 (by decide) ?_
      obtain ⟨f1008, hk1008, hn1008, hw⟩ := hw
      refine JV.lald0 dL_law_1008 hn1008 hk1008 ?_
      refine J.iload 0 dL_law_1009 rfl ?_
      refine J.i2l dL_law_1011 ?_
      refine J.lcmp dL_law_1012 ?_
      refine J.if_eq 1018 dL_law_1013 (by decide) ⟨fun c1013 => ?_, fun c1013 => ?_⟩
      · obtain ⟨hw, -⟩ := hw
        specialize hw c1013
        refine J.goto 3184 dL_law_1018 (by decide) ?_
        refine J.iincN 6 (K := (6 : Int32)) (lv' := fun y3184 => [(4, .int y3184), (6, .int r985), (5, .int r961), (0, .ref 69), (1, .ref x1), (2, .ref x2), (3, .ref x3)]) dL_law_3184 rfl (by decide) (by decide) (fun _ => rfl) hw ?_
        clear hw
        intro y3184 hw
        refine J.goto 23 dL_law_3187 (by decide) ?_
        exact J.pick [3, 4, 5, 6, 0] rfl (hK23 _ _ _ _ _ _ _ _ _ hw)
      · obtain ⟨-, hw⟩ := hw
        specialize hw c1013
        refine J.iconst (v := (0 : Int32)) dL_law_1016 (by decide) ?_
        exact J.zret rfl rfl dL_law_1017 ⟨_, _, _, rfl, _, rfl, hw⟩
  · obtain ⟨-, hw⟩ := hw
    specialize hw c996
    refine J.iconst (v := (0 : Int32)) dL_law_999 (by decide) ?_
    exact J.zret rfl rfl dL_law_1000 ⟨_, _, _, rfl, _, rfl, hw⟩
def wL_law_1021 (G : jG) (Q : Int32 → List jH → (Nat → Nat → Int32) → (Nat → Nat → Option Nat) → Prop) (K23 : List jH → (Nat → Nat → Int32) → (Nat → Nat → Option Nat) → Nat → Nat → Nat → Nat → Nat → Int32 → Prop) (sh : List jH) (V : Nat → Nat → Int32) (R : Nat → Nat → Option Nat) (c : Nat) (n : Nat) (x1 : Nat) (x2 : Nat) (x3 : Nat) (x4 : Int32) : Prop :=
  (vp_in (x4 + (1 : Int32)) (jScN G) ∧ (vp_in (x4 + (2 : Int32)) (jScN G) ∧ (vp_in (x4 + (3 : Int32)) (jScN G) ∧ (jReg shX1 sh x1 ∧ (∃ c11041 n11041 c21041 n21041 : Nat, c11041 + c21041 ≤ c ∧ n11041 + n21041 ≤ n ∧ (wX0_book x1 sh V R c11041 n11041 (jScF G (x4 + (1 : Int32)).toNatClampNeg) (jScF G (x4 + (2 : Int32)).toNatClampNeg) (jScF G (x4 + (3 : Int32)).toNatClampNeg) x3 (fun r1041 sh1041 V1041 R1041 => (vp_in (x4 + (1 : Int32)) (jScN G) ∧ (vp_in (x4 + (2 : Int32)) (jScN G) ∧ (vp_in (x4 + (3 : Int32)) (jScN G) ∧ (jReg shX6 sh1041 x2 ∧ (wX6_book x2 V1041 (jScF G (x4 + (1 : Int32)).toNatClampNeg) (jScF G (x4 + (2 : Int32)).toNatClampNeg) (jScF G (x4 + (3 : Int32)).toNatClampNeg) (fun r1065 V1065 => (jReg shX6 sh1041 x2 ∧ (wX6_thrown x2 V1065 (fun r1071 => ((r1071 = r1041 → ((¬ r1041 = 0 → (∀ y3184 : Int32, y3184 = x4 + (6 : Int32) → K23 sh1041 V1065 R1041 c21041 n21041 x1 x2 x3 y3184)) ∧ (r1041 = 0 → (∃ f1088 : Nat → Int64, sh1041[x3]? = some (jF (.inl (3, 1, .inr (.inl f1088)))) ∧ jn ≤ x3 ∧ (((lg_cmp (f1088 0) r1065.toInt64) = 0 → (∀ y3184 : Int32, y3184 = x4 + (6 : Int32) → K23 sh1041 V1065 R1041 c21041 n21041 x1 x2 x3 y3184)) ∧ (¬ (lg_cmp (f1088 0) r1065.toInt64) = 0 → Q (0 : Int32) sh1041 V1065 R1041)))))) ∧ (¬ r1071 = r1041 → Q (0 : Int32) sh1041 V1065 R1041))))))))))))))))))
theorem rL_law_1021 {G : jG} {l : Launch} {d : Nat} (htr : l.stackTraces = false) (hdd : 107 ≤ d) {Q : Int32 → List jH → (Nat → Nat → Int32) → (Nat → Nat → Option Nat) → Prop} {K23 : List jH → (Nat → Nat → Int32) → (Nat → Nat → Option Nat) → Nat → Nat → Nat → Nat → Nat → Int32 → Prop} (hK23 : ∀ (sh : List jH) (V : Nat → Nat → Int32) (R : Nat → Nat → Option Nat) (c : Nat) (n : Nat) (x1 : Nat) (x2 : Nat) (x3 : Nat) (x4 : Int32), K23 sh V R c n x1 x2 x3 x4 → J G l ML_law d c n 23 [(0, .ref 69), (1, .ref x1), (2, .ref x2), (3, .ref x3), (4, .int x4)] [] (mk sh V R) (jSr Q) jNo) {sh : List jH} {V : Nat → Nat → Int32} {R : Nat → Nat → Option Nat} {c : Nat} {n : Nat} {x1 : Nat} {x2 : Nat} {x3 : Nat} {x4 : Int32} (hw : wL_law_1021 G Q K23 sh V R c n x1 x2 x3 x4) : J G l ML_law d c n 1021 [(0, .ref 69), (1, .ref x1), (2, .ref x2), (3, .ref x3), (4, .int x4)] [] (mk sh V R) (jSr Q) jNo := by
  unfold wL_law_1021 at hw
  refine J.aload_n 1 dL_law_1021 rfl ?_
  refine J.aload_n 0 dL_law_1022 rfl ?_
  refine J.iload 4 dL_law_1023 rfl ?_
  refine J.iconst (v := (1 : Int32)) dL_law_1025 (by decide) ?_
  refine J.iadd dL_law_1026 ?_
  obtain ⟨h1027, hw⟩ := hw
  refine J.sld dL_law_1027 h1027 ?_
  refine J.aload_n 0 dL_law_1028 rfl ?_
  refine J.iload 4 dL_law_1029 rfl ?_
  refine J.iconst (v := (2 : Int32)) dL_law_1031 (by decide) ?_
  refine J.iadd dL_law_1032 ?_
  obtain ⟨h1033, hw⟩ := hw
  refine J.sld dL_law_1033 h1033 ?_
  refine J.aload_n 0 dL_law_1034 rfl ?_
  refine J.iload 4 dL_law_1035 rfl ?_
  refine J.iconst (v := (3 : Int32)) dL_law_1037 (by decide) ?_
  refine J.iadd dL_law_1038 ?_
  obtain ⟨h1039, hw⟩ := hw
  refine J.sld dL_law_1039 h1039 ?_
  refine J.aload_n 3 dL_law_1040 rfl ?_
  obtain ⟨hq1041_x1, hw⟩ := hw
  obtain ⟨c11041, n11041, c21041, n21041, hc1041, hd1041, hw⟩ := hw
  refine uL_193 rfl htr hq1041_x1 dL_law_1041 (by omega) (Nat.le_of_ble_eq_true rfl) hw ⟨hc1041, hd1041⟩ ?_
  clear hw
  intro r1041 sh1041 V1041 R1041 hw
  refine J.istore (lv' := [(5, .int r1041), (0, .ref 69), (1, .ref x1), (2, .ref x2), (3, .ref x3), (4, .int x4)]) dL_law_1044 (by decide) rfl ?_
  refine J.aload_n 3 dL_law_1046 rfl ?_
  refine J.aload_n 1 dL_law_1047 rfl ?_
  refine J.iload 5 dL_law_1048 rfl ?_
  refine J.iconst (v := (1 : Int32)) dL_law_1050 (by decide) ?_
  refine J.iadd dL_law_1051 ?_
  obtain ⟨h1052, hw⟩ := hw
  refine J.sld dL_law_1052 h1052 ?_
  refine J.aload_n 1 dL_law_1053 rfl ?_
  refine J.iload 5 dL_law_1054 rfl ?_
  refine J.iconst (v := (2 : Int32)) dL_law_1056 (by decide) ?_
  refine J.iadd dL_law_1057 ?_
  obtain ⟨h1058, hw⟩ := hw
  refine J.sld dL_law_1058 h1058 ?_
  refine J.aload_n 1 dL_law_1059 rfl ?_
  refine J.iload 5 dL_law_1060 rfl ?_
  refine J.iconst (v := (3 : Int32)) dL_law_1062 (by decide) ?_
  refine J.iadd dL_law_1063 ?_
  obtain ⟨h1064, hw⟩ := hw
  refine J.sld dL_law_1064 h1064 ?_
  obtain ⟨hq1065_x2, hw⟩ := hw
  refine uL_195 rfl htr hq1065_x2 dL_law_1065 (by omega) (Nat.le_of_ble_eq_true rfl) hw ?_
  clear hw
  intro r1065 V1065 hw
  refine J.istore (lv' := [(6, .int r1065), (5, .int r1041), (0, .ref 69), (1, .ref x1), (2, .ref x2), (3, .ref x3), (4, .int x4)]) dL_law_1068 (by decide) rfl ?_
  refine J.aload_n 4 dL_law_1070 rfl ?_
  obtain ⟨hq1071_x2, hw⟩ := hw
  refine uL_159 rfl htr hq1071_x2 dL_law_1071 (by omega) (Nat.le_of_ble_eq_true rfl) hw ?_
  clear hw
  intro r1071 hw
  refine J.iload 1 dL_law_1074 rfl ?_
  refine J.icmp_eq 1081 dL_law_1076 (by decide) ⟨fun c1076 => ?_, fun c1076 => ?_⟩
  · obtain ⟨hw, -⟩ := hw
    specialize hw c1076
    refine J.iload 1 dL_law_1081 rfl ?_
    refine J.if_ne 1098 dL_law_1083 (by decide) ⟨fun c1083 => ?_, fun c1083 => ?_⟩
    · obtain ⟨hw, -⟩ := hw
      specialize hw c1083
      refine J.goto 3184 dL_law_1098 (by decide) ?_
      refine J.iincN 6 (K := (6 : Int32)) (lv' := fun y3184 => [(4, .int y3184), (6, .int r1065), (5, .int r1041), (0, .ref 69), (1, .ref x1), (2, .ref x2), (3, .ref x3)]) dL_law_3184 rfl (by decide) (by decide) (fun _ => rfl) hw ?_
      clear hw
      intro y3184 hw
      refine J.goto 23 dL_law_3187 (by decide) ?_
      exact J.pick [3, 4, 5, 6, 0] rfl (hK23 _ _ _ _ _ _ _ _ _ hw)
    · obtain ⟨-, hw⟩ := hw
      specialize hw c1083
      refine J.aload_n 5 dL_law_1086 rfl ?_
      refine J.iconst (v := (0 : Int32)) dL_law_1087 (by decide) ?_
      obtain ⟨f1088, hk1088, hn1088, hw⟩ := hw
      refine JV.lald0 dL_law_1088 hn1088 hk1088 ?_
      refine J.iload 0 dL_law_1089 rfl ?_
      refine J.i2l dL_law_1091 ?_
      refine J.lcmp dL_law_1092 ?_
      refine J.if_eq 1098 dL_law_1093 (by decide) ⟨fun c1093 => ?_, fun c1093 => ?_⟩
      · obtain ⟨hw, -⟩ := hw
        specialize hw c1093
        refine J.goto 3184 dL_law_1098 (by decide) ?_
        refine J.iincN 6 (K := (6 : Int32)) (lv' := fun y3184 => [(4, .int y3184), (6, .int r1065), (5, .int r1041), (0, .ref 69), (1, .ref x1), (2, .ref x2), (3, .ref x3)]) dL_law_3184 rfl (by decide) (by decide) (fun _ => rfl) hw ?_
        clear hw
        intro y3184 hw
        refine J.goto 23 dL_law_3187 (by decide) ?_
        exact J.pick [3, 4, 5, 6, 0] rfl (hK23 _ _ _ _ _ _ _ _ _ hw)
      · obtain ⟨-, hw⟩ := hw
        specialize hw c1093
        refine J.iconst (v := (0 : Int32)) dL_law_1096 (by decide) ?_
        exact J.zret rfl rfl dL_law_1097 ⟨_, _, _, rfl, _, rfl, hw⟩
  · obtain ⟨-, hw⟩ := hw
    specialize hw c1076
    refine J.iconst (v := (0 : Int32)) dL_law_1079 (by decide) ?_
    exact J.zret rfl rfl dL_law_1080 ⟨_, _, _, rfl, _, rfl, hw⟩
def wL_law_1101 (G : jG) (Q : Int32 → List jH → (Nat → Nat → Int32) → (Nat → Nat → Option Nat) → Prop) (K23 : List jH → (Nat → Nat → Int32) → (Nat → Nat → Option Nat) → Nat → Nat → Nat → Nat → Nat → Int32 → Prop) (sh : List jH) (V : Nat → Nat → Int32) (R : Nat → Nat → Option Nat) (c : Nat) (n : Nat) (x1 : Nat) (x2 : Nat) (x3 : Nat) (x4 : Int32) : Prop :=
  (vp_in (x4 + (1 : Int32)) (jScN G) ∧ (vp_in (x4 + (2 : Int32)) (jScN G) ∧ (jReg shX1 sh x1 ∧ (∃ c11115 n11115 c21115 n21115 : Nat, c11115 + c21115 ≤ c ∧ n11115 + n21115 ≤ n ∧ (wX0_strike x1 sh V R c11115 n11115 (jScF G (x4 + (1 : Int32)).toNatClampNeg) (jScF G (x4 + (2 : Int32)).toNatClampNeg) x3 (fun r1115 sh1115 V1115 R1115 => (vp_in (x4 + (1 : Int32)) (jScN G) ∧ (vp_in (x4 + (2 : Int32)) (jScN G) ∧ (jReg shX6 sh1115 x2 ∧ (wX6_strike x2 V1115 (jScF G (x4 + (1 : Int32)).toNatClampNeg) (jScF G (x4 + (2 : Int32)).toNatClampNeg) (fun r1133 V1133 => (jReg shX6 sh1115 x2 ∧ (wX6_thrown x2 V1133 (fun r1139 => ((r1139 = r1115 → ((¬ r1115 = 0 → (∀ y3184 : Int32, y3184 = x4 + (6 : Int32) → K23 sh1115 V1133 R1115 c21115 n21115 x1 x2 x3 y3184)) ∧ (r1115 = 0 → (∃ f1156 : Nat → Int64, sh1115[x3]? = some (jF (.inl (3, 1, .inr (.inl f1156)))) ∧ jn ≤ x3 ∧ (((lg_cmp (f1156 0) r1133.toInt64) = 0 → (∀ y3184 : Int32, y3184 = x4 + (6 : Int32) → K23 sh1115 V1133 R1115 c21115 n21115 x1 x2 x3 y3184)) ∧ (¬ (lg_cmp (f1156 0) r1133.toInt64) = 0 → Q (0 : Int32) sh1115 V1133 R1115)))))) ∧ (¬ r1139 = r1115 → Q (0 : Int32) sh1115 V1133 R1115))))))))))))))))
theorem rL_law_1101 {G : jG} {l : Launch} {d : Nat} (htr : l.stackTraces = false) (hdd : 107 ≤ d) {Q : Int32 → List jH → (Nat → Nat → Int32) → (Nat → Nat → Option Nat) → Prop} {K23 : List jH → (Nat → Nat → Int32) → (Nat → Nat → Option Nat) → Nat → Nat → Nat → Nat → Nat → Int32 → Prop} (hK23 : ∀ (sh : List jH) (V : Nat → Nat → Int32) (R : Nat → Nat → Option Nat) (c : Nat) (n : Nat) (x1 : Nat) (x2 : Nat) (x3 : Nat) (x4 : Int32), K23 sh V R c n x1 x2 x3 x4 → J G l ML_law d c n 23 [(0, .ref 69), (1, .ref x1), (2, .ref x2), (3, .ref x3), (4, .int x4)] [] (mk sh V R) (jSr Q) jNo) {sh : List jH} {V : Nat → Nat → Int32} {R : Nat → Nat → Option Nat} {c : Nat} {n : Nat} {x1 : Nat} {x2 : Nat} {x3 : Nat} {x4 : Int32} (hw : wL_law_1101 G Q K23 sh V R c n x1 x2 x3 x4) : J G l ML_law d c n 1101 [(0, .ref 69), (1, .ref x1), (2, .ref x2), (3, .ref x3), (4, .int x4)] [] (mk sh V R) (jSr Q) jNo := by
  unfold wL_law_1101 at hw
  refine J.aload_n 1 dL_law_1101 rfl ?_
  refine J.aload_n 0 dL_law_1102 rfl ?_
  refine J.iload 4 dL_law_1103 rfl ?_
  refine J.iconst (v := (1 : Int32)) dL_law_1105 (by decide) ?_
  refine J.iadd dL_law_1106 ?_
  obtain ⟨h1107, hw⟩ := hw
  refine J.sld dL_law_1107 h1107 ?_
  refine J.aload_n 0 dL_law_1108 rfl ?_
  refine J.iload 4 dL_law_1109 rfl ?_
  refine J.iconst (v := (2 : Int32)) dL_law_1111 (by decide) ?_
  refine J.iadd dL_law_1112 ?_
  obtain ⟨h1113, hw⟩ := hw
  refine J.sld dL_law_1113 h1113 ?_
  refine J.aload_n 3 dL_law_1114 rfl ?_
  obtain ⟨hq1115_x1, hw⟩ := hw
  obtain ⟨c11115, n11115, c21115, n21115, hc1115, hd1115, hw⟩ := hw
  refine uL_196 rfl htr hq1115_x1 dL_law_1115 (by omega) (Nat.le_of_ble_eq_true rfl) hw ⟨hc1115, hd1115⟩ ?_
  clear hw
  intro r1115 sh1115 V1115 R1115 hw
  refine J.istore (lv' := [(5, .int r1115), (0, .ref 69), (1, .ref x1), (2, .ref x2), (3, .ref x3), (4, .int x4)]) dL_law_1118 (by decide) rfl ?_
  refine J.aload_n 3 dL_law_1120 rfl ?_
  refine J.aload_n 1 dL_law_1121 rfl ?_
  refine J.iload 5 dL_law_1122 rfl ?_
  refine J.iconst (v := (1 : Int32)) dL_law_1124 (by decide) ?_
  refine J.iadd dL_law_1125 ?_
  obtain ⟨h1126, hw⟩ := hw
  refine J.sld dL_law_1126 h1126 ?_
  refine J.aload_n 1 dL_law_1127 rfl ?_
  refine J.iload 5 dL_law_1128 rfl ?_
  refine J.iconst (v := (2 : Int32)) dL_law_1130 (by decide) ?_
  refine J.iadd dL_law_1131 ?_
  obtain ⟨h1132, hw⟩ := hw
  refine J.sld dL_law_1132 h1132 ?_
  obtain ⟨hq1133_x2, hw⟩ := hw
  refine uL_198 rfl htr hq1133_x2 dL_law_1133 (by omega) (Nat.le_of_ble_eq_true rfl) hw ?_
  clear hw
  intro r1133 V1133 hw
  refine J.istore (lv' := [(6, .int r1133), (5, .int r1115), (0, .ref 69), (1, .ref x1), (2, .ref x2), (3, .ref x3), (4, .int x4)]) dL_law_1136 (by decide) rfl ?_
  refine J.aload_n 4 dL_law_1138 rfl ?_
  obtain ⟨hq1139_x2, hw⟩ := hw
  refine uL_159 rfl htr hq1139_x2 dL_law_1139 (by omega) (Nat.le_of_ble_eq_true rfl) hw ?_
  clear hw
  intro r1139 hw
  refine J.iload 1 dL_law_1142 rfl ?_
  refine J.icmp_eq 1149 dL_law_1144 (by decide) ⟨fun c1144 => ?_, fun c1144 => ?_⟩
  · obtain ⟨hw, -⟩ := hw
    specialize hw c1144
    refine J.iload 1 dL_law_1149 rfl ?_
    refine J.if_ne 1166 dL_law_1151 (by decide) ⟨fun c1151 => ?_, fun c1151 => ?_⟩
    · obtain ⟨hw, -⟩ := hw
      specialize hw c1151
      refine J.goto 3184 dL_law_1166 (by decide) ?_
      refine J.iincN 6 (K := (6 : Int32)) (lv' := fun y3184 => [(4, .int y3184), (6, .int r1133), (5, .int r1115), (0, .ref 69), (1, .ref x1), (2, .ref x2), (3, .ref x3)]) dL_law_3184 rfl (by decide) (by decide) (fun _ => rfl) hw ?_
      clear hw
      intro y3184 hw
      refine J.goto 23 dL_law_3187 (by decide) ?_
      exact J.pick [3, 4, 5, 6, 0] rfl (hK23 _ _ _ _ _ _ _ _ _ hw)
    · obtain ⟨-, hw⟩ := hw
      specialize hw c1151
      refine J.aload_n 5 dL_law_1154 rfl ?_
      refine J.iconst (v := (0 : Int32)) dL_law_1155 (by decide) ?_
      obtain ⟨f1156, hk1156, hn1156, hw⟩ := hw
      refine JV.lald0 dL_law_1156 hn1156 hk1156 ?_
      refine J.iload 0 dL_law_1157 rfl ?_
      refine J.i2l dL_law_1159 ?_
      refine J.lcmp dL_law_1160 ?_
      refine J.if_eq 1166 dL_law_1161 (by decide) ⟨fun c1161 => ?_, fun c1161 => ?_⟩
      · obtain ⟨hw, -⟩ := hw
        specialize hw c1161
        refine J.goto 3184 dL_law_1166 (by decide) ?_
        refine J.iincN 6 (K := (6 : Int32)) (lv' := fun y3184 => [(4, .int y3184), (6, .int r1133), (5, .int r1115), (0, .ref 69), (1, .ref x1), (2, .ref x2), (3, .ref x3)]) dL_law_3184 rfl (by decide) (by decide) (fun _ => rfl) hw ?_
        clear hw
        intro y3184 hw
        refine J.goto 23 dL_law_3187 (by decide) ?_
        exact J.pick [3, 4, 5, 6, 0] rfl (hK23 _ _ _ _ _ _ _ _ _ hw)
      · obtain ⟨-, hw⟩ := hw
        specialize hw c1161
        refine J.iconst (v := (0 : Int32)) dL_law_1164 (by decide) ?_
        exact J.zret rfl rfl dL_law_1165 ⟨_, _, _, rfl, _, rfl, hw⟩
  · obtain ⟨-, hw⟩ := hw
    specialize hw c1144
    refine J.iconst (v := (0 : Int32)) dL_law_1147 (by decide) ?_
    exact J.zret rfl rfl dL_law_1148 ⟨_, _, _, rfl, _, rfl, hw⟩
def wL_law_1169 (G : jG) (Q : Int32 → List jH → (Nat → Nat → Int32) → (Nat → Nat → Option Nat) → Prop) (K23 : List jH → (Nat → Nat → Int32) → (Nat → Nat → Option Nat) → Nat → Nat → Nat → Nat → Nat → Int32 → Prop) (sh : List jH) (V : Nat → Nat → Int32) (R : Nat → Nat → Option Nat) (c : Nat) (n : Nat) (x1 : Nat) (x2 : Nat) (x3 : Nat) (x4 : Int32) : Prop :=
  (vp_in (x4 + (1 : Int32)) (jScN G) ∧ (vp_in (x4 + (2 : Int32)) (jScN G) ∧ (vp_in (x4 + (3 : Int32)) (jScN G) ∧ (jReg shX1 sh x1 ∧ (∃ c11189 n11189 c21189 n21189 : Nat, c11189 + c21189 ≤ c ∧ n11189 + n21189 ≤ n ∧ (wX0_change x1 sh V R c11189 n11189 (jScF G (x4 + (1 : Int32)).toNatClampNeg) (jScF G (x4 + (2 : Int32)).toNatClampNeg) (jScF G (x4 + (3 : Int32)).toNatClampNeg) x3 (fun r1189 sh1189 V1189 R1189 => (vp_in (x4 + (1 : Int32)) (jScN G) ∧ (vp_in (x4 + (2 : Int32)) (jScN G) ∧ (vp_in (x4 + (3 : Int32)) (jScN G) ∧ (jReg shX6 sh1189 x2 ∧ (wX6_change x2 V1189 (jScF G (x4 + (1 : Int32)).toNatClampNeg) (jScF G (x4 + (2 : Int32)).toNatClampNeg) (jScF G (x4 + (3 : Int32)).toNatClampNeg) (fun r1213 V1213 => (jReg shX6 sh1189 x2 ∧ (wX6_thrown x2 V1213 (fun r1219 => ((r1219 = r1189 → ((¬ r1189 = 0 → (∀ y3184 : Int32, y3184 = x4 + (6 : Int32) → K23 sh1189 V1213 R1189 c21189 n21189 x1 x2 x3 y3184)) ∧ (r1189 = 0 → (∃ f1236 : Nat → Int64, sh1189[x3]? = some (jF (.inl (3, 1, .inr (.inl f1236)))) ∧ jn ≤ x3 ∧ (((lg_cmp (f1236 0) r1213.toInt64) = 0 → (∀ y3184 : Int32, y3184 = x4 + (6 : Int32) → K23 sh1189 V1213 R1189 c21189 n21189 x1 x2 x3 y3184)) ∧ (¬ (lg_cmp (f1236 0) r1213.toInt64) = 0 → Q (0 : Int32) sh1189 V1213 R1189)))))) ∧ (¬ r1219 = r1189 → Q (0 : Int32) sh1189 V1213 R1189))))))))))))))))))
theorem rL_law_1169 {G : jG} {l : Launch} {d : Nat} (htr : l.stackTraces = false) (hdd : 107 ≤ d) {Q : Int32 → List jH → (Nat → Nat → Int32) → (Nat → Nat → Option Nat) → Prop} {K23 : List jH → (Nat → Nat → Int32) → (Nat → Nat → Option Nat) → Nat → Nat → Nat → Nat → Nat → Int32 → Prop} (hK23 : ∀ (sh : List jH) (V : Nat → Nat → Int32) (R : Nat → Nat → Option Nat) (c : Nat) (n : Nat) (x1 : Nat) (x2 : Nat) (x3 : Nat) (x4 : Int32), K23 sh V R c n x1 x2 x3 x4 → J G l ML_law d c n 23 [(0, .ref 69), (1, .ref x1), (2, .ref x2), (3, .ref x3), (4, .int x4)] [] (mk sh V R) (jSr Q) jNo) {sh : List jH} {V : Nat → Nat → Int32} {R : Nat → Nat → Option Nat} {c : Nat} {n : Nat} {x1 : Nat} {x2 : Nat} {x3 : Nat} {x4 : Int32} (hw : wL_law_1169 G Q K23 sh V R c n x1 x2 x3 x4) : J G l ML_law d c n 1169 [(0, .ref 69), (1, .ref x1), (2, .ref x2), (3, .ref x3), (4, .int x4)] [] (mk sh V R) (jSr Q) jNo := by
  unfold wL_law_1169 at hw
  refine J.aload_n 1 dL_law_1169 rfl ?_
  refine J.aload_n 0 dL_law_1170 rfl ?_
  refine J.iload 4 dL_law_1171 rfl ?_
  refine J.iconst (v := (1 : Int32)) dL_law_1173 (by decide) ?_
  refine J.iadd dL_law_1174 ?_
  obtain ⟨h1175, hw⟩ := hw
  refine J.sld dL_law_1175 h1175 ?_
  refine J.aload_n 0 dL_law_1176 rfl ?_
  refine J.iload 4 dL_law_1177 rfl ?_
  refine J.iconst (v := (2 : Int32)) dL_law_1179 (by decide) ?_
  refine J.iadd dL_law_1180 ?_
  obtain ⟨h1181, hw⟩ := hw
  refine J.sld dL_law_1181 h1181 ?_
  refine J.aload_n 0 dL_law_1182 rfl ?_
  refine J.iload 4 dL_law_1183 rfl ?_
  refine J.iconst (v := (3 : Int32)) dL_law_1185 (by decide) ?_
  refine J.iadd dL_law_1186 ?_
  obtain ⟨h1187, hw⟩ := hw
  refine J.sld dL_law_1187 h1187 ?_
  refine J.aload_n 3 dL_law_1188 rfl ?_
  obtain ⟨hq1189_x1, hw⟩ := hw
  obtain ⟨c11189, n11189, c21189, n21189, hc1189, hd1189, hw⟩ := hw
  refine uL_199 rfl htr hq1189_x1 dL_law_1189 (by omega) (Nat.le_of_ble_eq_true rfl) hw ⟨hc1189, hd1189⟩ ?_
  clear hw
  intro r1189 sh1189 V1189 R1189 hw
  refine J.istore (lv' := [(5, .int r1189), (0, .ref 69), (1, .ref x1), (2, .ref x2), (3, .ref x3), (4, .int x4)]) dL_law_1192 (by decide) rfl ?_
  refine J.aload_n 3 dL_law_1194 rfl ?_
  refine J.aload_n 1 dL_law_1195 rfl ?_
  refine J.iload 5 dL_law_1196 rfl ?_
  refine J.iconst (v := (1 : Int32)) dL_law_1198 (by decide) ?_
  refine J.iadd dL_law_1199 ?_
  obtain ⟨h1200, hw⟩ := hw
  refine J.sld dL_law_1200 h1200 ?_
  refine J.aload_n 1 dL_law_1201 rfl ?_
  refine J.iload 5 dL_law_1202 rfl ?_
  refine J.iconst (v := (2 : Int32)) dL_law_1204 (by decide) ?_
  refine J.iadd dL_law_1205 ?_
  obtain ⟨h1206, hw⟩ := hw
  refine J.sld dL_law_1206 h1206 ?_
  refine J.aload_n 1 dL_law_1207 rfl ?_
  refine J.iload 5 dL_law_1208 rfl ?_
  refine J.iconst (v := (3 : Int32)) dL_law_1210 (by decide) ?_
  refine J.iadd dL_law_1211 ?_
  obtain ⟨h1212, hw⟩ := hw
  refine J.sld dL_law_1212 h1212 ?_
  obtain ⟨hq1213_x2, hw⟩ := hw
  refine uL_201 rfl htr hq1213_x2 dL_law_1213 (by omega) (Nat.le_of_ble_eq_true rfl) hw ?_
  clear hw
  intro r1213 V1213 hw
  refine J.istore (lv' := [(6, .int r1213), (5, .int r1189), (0, .ref 69), (1, .ref x1), (2, .ref x2), (3, .ref x3), (4, .int x4)]) dL_law_1216 (by decide) rfl ?_
  refine J.aload_n 4 dL_law_1218 rfl ?_
  obtain ⟨hq1219_x2, hw⟩ := hw
  refine uL_159 rfl htr hq1219_x2 dL_law_1219 (by omega) (Nat.le_of_ble_eq_true rfl) hw ?_
  clear hw
  intro r1219 hw
  refine J.iload 1 dL_law_1222 rfl ?_
  refine J.icmp_eq 1229 dL_law_1224 (by decide) ⟨fun c1224 => ?_, fun c1224 => ?_⟩
  · obtain ⟨hw, -⟩ := hw
    specialize hw c1224
    refine J.iload 1 dL_law_1229 rfl ?_
    refine J.if_ne 1246 dL_law_1231 (by decide) ⟨fun c1231 => ?_, fun c1231 => ?_⟩
    · obtain ⟨hw, -⟩ := hw
      specialize hw c1231
      refine J.goto 3184 dL_law_1246 (by decide) ?_
      refine J.iincN 6 (K := (6 : Int32)) (lv' := fun y3184 => [(4, .int y3184), (6, .int r1213), (5, .int r1189), (0, .ref 69), (1, .ref x1), (2, .ref x2), (3, .ref x3)]) dL_law_3184 rfl (by decide) (by decide) (fun _ => rfl) hw ?_
      clear hw
      intro y3184 hw
      refine J.goto 23 dL_law_3187 (by decide) ?_
      exact J.pick [3, 4, 5, 6, 0] rfl (hK23 _ _ _ _ _ _ _ _ _ hw)
    · obtain ⟨-, hw⟩ := hw
      specialize hw c1231
      refine J.aload_n 5 dL_law_1234 rfl ?_
      refine J.iconst (v := (0 : Int32)) dL_law_1235 (by decide) ?_
      obtain ⟨f1236, hk1236, hn1236, hw⟩ := hw
      refine JV.lald0 dL_law_1236 hn1236 hk1236 ?_
      refine J.iload 0 dL_law_1237 rfl ?_
      refine J.i2l dL_law_1239 ?_
      refine J.lcmp dL_law_1240 ?_
      refine J.if_eq 1246 dL_law_1241 (by decide) ⟨fun c1241 => ?_, fun c1241 => ?_⟩
      · obtain ⟨hw, -⟩ := hw
        specialize hw c1241
        refine J.goto 3184 dL_law_1246 (by decide) ?_
        refine J.iincN 6 (K := (6 : Int32)) (lv' := fun y3184 => [(4, .int y3184), (6, .int r1213), (5, .int r1189), (0, .ref 69), (1, .ref x1), (2, .ref x2), (3, .ref x3)]) dL_law_3184 rfl (by decide) (by decide) (fun _ => rfl) hw ?_
        clear hw
        intro y3184 hw
        refine J.goto 23 dL_law_3187 (by decide) ?_
        exact J.pick [3, 4, 5, 6, 0] rfl (hK23 _ _ _ _ _ _ _ _ _ hw)
      · obtain ⟨-, hw⟩ := hw
        specialize hw c1241
        refine J.iconst (v := (0 : Int32)) dL_law_1244 (by decide) ?_
        exact J.zret rfl rfl dL_law_1245 ⟨_, _, _, rfl, _, rfl, hw⟩
  · obtain ⟨-, hw⟩ := hw
    specialize hw c1224
    refine J.iconst (v := (0 : Int32)) dL_law_1227 (by decide) ?_
    exact J.zret rfl rfl dL_law_1228 ⟨_, _, _, rfl, _, rfl, hw⟩
def wL_law_1249 (G : jG) (Q : Int32 → List jH → (Nat → Nat → Int32) → (Nat → Nat → Option Nat) → Prop) (K23 : List jH → (Nat → Nat → Int32) → (Nat → Nat → Option Nat) → Nat → Nat → Nat → Nat → Nat → Int32 → Prop) (sh : List jH) (V : Nat → Nat → Int32) (R : Nat → Nat → Option Nat) (c : Nat) (n : Nat) (x1 : Nat) (x2 : Nat) (x3 : Nat) (x4 : Int32) : Prop :=
  (vp_in (x4 + (1 : Int32)) (jScN G) ∧ (vp_in (x4 + (2 : Int32)) (jScN G) ∧ (jReg shX1 sh x1 ∧ (∃ c11263 n11263 c21263 n21263 : Nat, c11263 + c21263 ≤ c ∧ n11263 + n21263 ≤ n ∧ (wX0_mark x1 sh V R c11263 n11263 (jScF G (x4 + (1 : Int32)).toNatClampNeg) (jScF G (x4 + (2 : Int32)).toNatClampNeg) x3 (fun r1263 sh1263 V1263 R1263 => (vp_in (x4 + (1 : Int32)) (jScN G) ∧ (vp_in (x4 + (2 : Int32)) (jScN G) ∧ (jReg shX6 sh1263 x2 ∧ (wX6_mark x2 V1263 (jScF G (x4 + (1 : Int32)).toNatClampNeg) (jScF G (x4 + (2 : Int32)).toNatClampNeg) (fun r1281 V1281 => (jReg shX6 sh1263 x2 ∧ (wX6_thrown x2 V1281 (fun r1287 => ((r1287 = r1263 → ((¬ r1263 = 0 → (∀ y3184 : Int32, y3184 = x4 + (6 : Int32) → K23 sh1263 V1281 R1263 c21263 n21263 x1 x2 x3 y3184)) ∧ (r1263 = 0 → (∃ f1304 : Nat → Int64, sh1263[x3]? = some (jF (.inl (3, 1, .inr (.inl f1304)))) ∧ jn ≤ x3 ∧ (((lg_cmp (f1304 0) r1281.toInt64) = 0 → (∀ y3184 : Int32, y3184 = x4 + (6 : Int32) → K23 sh1263 V1281 R1263 c21263 n21263 x1 x2 x3 y3184)) ∧ (¬ (lg_cmp (f1304 0) r1281.toInt64) = 0 → Q (0 : Int32) sh1263 V1281 R1263)))))) ∧ (¬ r1287 = r1263 → Q (0 : Int32) sh1263 V1281 R1263))))))))))))))))
theorem rL_law_1249 {G : jG} {l : Launch} {d : Nat} (htr : l.stackTraces = false) (hdd : 107 ≤ d) {Q : Int32 → List jH → (Nat → Nat → Int32) → (Nat → Nat → Option Nat) → Prop} {K23 : List jH → (Nat → Nat → Int32) → (Nat → Nat → Option Nat) → Nat → Nat → Nat → Nat → Nat → Int32 → Prop} (hK23 : ∀ (sh : List jH) (V : Nat → Nat → Int32) (R : Nat → Nat → Option Nat) (c : Nat) (n : Nat) (x1 : Nat) (x2 : Nat) (x3 : Nat) (x4 : Int32), K23 sh V R c n x1 x2 x3 x4 → J G l ML_law d c n 23 [(0, .ref 69), (1, .ref x1), (2, .ref x2), (3, .ref x3), (4, .int x4)] [] (mk sh V R) (jSr Q) jNo) {sh : List jH} {V : Nat → Nat → Int32} {R : Nat → Nat → Option Nat} {c : Nat} {n : Nat} {x1 : Nat} {x2 : Nat} {x3 : Nat} {x4 : Int32} (hw : wL_law_1249 G Q K23 sh V R c n x1 x2 x3 x4) : J G l ML_law d c n 1249 [(0, .ref 69), (1, .ref x1), (2, .ref x2), (3, .ref x3), (4, .int x4)] [] (mk sh V R) (jSr Q) jNo := by
  unfold wL_law_1249 at hw
  refine J.aload_n 1 dL_law_1249 rfl ?_
  refine J.aload_n 0 dL_law_1250 rfl ?_
  refine J.iload 4 dL_law_1251 rfl ?_
  refine J.iconst (v := (1 : Int32)) dL_law_1253 (by decide) ?_
  refine J.iadd dL_law_1254 ?_
  obtain ⟨h1255, hw⟩ := hw
  refine J.sld dL_law_1255 h1255 ?_
  refine J.aload_n 0 dL_law_1256 rfl ?_
  refine J.iload 4 dL_law_1257 rfl ?_
  refine J.iconst (v := (2 : Int32)) dL_law_1259 (by decide) ?_
  refine J.iadd dL_law_1260 ?_
  obtain ⟨h1261, hw⟩ := hw
  refine J.sld dL_law_1261 h1261 ?_
  refine J.aload_n 3 dL_law_1262 rfl ?_
  obtain ⟨hq1263_x1, hw⟩ := hw
  obtain ⟨c11263, n11263, c21263, n21263, hc1263, hd1263, hw⟩ := hw
  refine uL_202 rfl htr hq1263_x1 dL_law_1263 (by omega) (Nat.le_of_ble_eq_true rfl) hw ⟨hc1263, hd1263⟩ ?_
  clear hw
  intro r1263 sh1263 V1263 R1263 hw
  refine J.istore (lv' := [(5, .int r1263), (0, .ref 69), (1, .ref x1), (2, .ref x2), (3, .ref x3), (4, .int x4)]) dL_law_1266 (by decide) rfl ?_
  refine J.aload_n 3 dL_law_1268 rfl ?_
  refine J.aload_n 1 dL_law_1269 rfl ?_
  refine J.iload 5 dL_law_1270 rfl ?_
  refine J.iconst (v := (1 : Int32)) dL_law_1272 (by decide) ?_
  refine J.iadd dL_law_1273 ?_
  obtain ⟨h1274, hw⟩ := hw
  refine J.sld dL_law_1274 h1274 ?_
  refine J.aload_n 1 dL_law_1275 rfl ?_
  refine J.iload 5 dL_law_1276 rfl ?_
  refine J.iconst (v := (2 : Int32)) dL_law_1278 (by decide) ?_
  refine J.iadd dL_law_1279 ?_
  obtain ⟨h1280, hw⟩ := hw
  refine J.sld dL_law_1280 h1280 ?_
  obtain ⟨hq1281_x2, hw⟩ := hw
  refine uL_204 rfl htr hq1281_x2 dL_law_1281 (by omega) (Nat.le_of_ble_eq_true rfl) hw ?_
  clear hw
  intro r1281 V1281 hw
  refine J.istore (lv' := [(6, .int r1281), (5, .int r1263), (0, .ref 69), (1, .ref x1), (2, .ref x2), (3, .ref x3), (4, .int x4)]) dL_law_1284 (by decide) rfl ?_
  refine J.aload_n 4 dL_law_1286 rfl ?_
  obtain ⟨hq1287_x2, hw⟩ := hw
  refine uL_159 rfl htr hq1287_x2 dL_law_1287 (by omega) (Nat.le_of_ble_eq_true rfl) hw ?_
  clear hw
  intro r1287 hw
  refine J.iload 1 dL_law_1290 rfl ?_
  refine J.icmp_eq 1297 dL_law_1292 (by decide) ⟨fun c1292 => ?_, fun c1292 => ?_⟩
  · obtain ⟨hw, -⟩ := hw
    specialize hw c1292
    refine J.iload 1 dL_law_1297 rfl ?_
    refine J.if_ne 1314 dL_law_1299 (by decide) ⟨fun c1299 => ?_, fun c1299 => ?_⟩
    · obtain ⟨hw, -⟩ := hw
      specialize hw c1299
      refine J.goto 3184 dL_law_1314 (by decide) ?_
      refine J.iincN 6 (K := (6 : Int32)) (lv' := fun y3184 => [(4, .int y3184), (6, .int r1281), (5, .int r1263), (0, .ref 69), (1, .ref x1), (2, .ref x2), (3, .ref x3)]) dL_law_3184 rfl (by decide) (by decide) (fun _ => rfl) hw ?_
      clear hw
      intro y3184 hw
      refine J.goto 23 dL_law_3187 (by decide) ?_
      exact J.pick [3, 4, 5, 6, 0] rfl (hK23 _ _ _ _ _ _ _ _ _ hw)
    · obtain ⟨-, hw⟩ := hw
      specialize hw c1299
      refine J.aload_n 5 dL_law_1302 rfl ?_
      refine J.iconst (v := (0 : Int32)) dL_law_1303 (by decide) ?_
      obtain ⟨f1304, hk1304, hn1304, hw⟩ := hw
      refine JV.lald0 dL_law_1304 hn1304 hk1304 ?_
      refine J.iload 0 dL_law_1305 rfl ?_
      refine J.i2l dL_law_1307 ?_
      refine J.lcmp dL_law_1308 ?_
      refine J.if_eq 1314 dL_law_1309 (by decide) ⟨fun c1309 => ?_, fun c1309 => ?_⟩
      · obtain ⟨hw, -⟩ := hw
        specialize hw c1309
        refine J.goto 3184 dL_law_1314 (by decide) ?_
        refine J.iincN 6 (K := (6 : Int32)) (lv' := fun y3184 => [(4, .int y3184), (6, .int r1281), (5, .int r1263), (0, .ref 69), (1, .ref x1), (2, .ref x2), (3, .ref x3)]) dL_law_3184 rfl (by decide) (by decide) (fun _ => rfl) hw ?_
        clear hw
        intro y3184 hw
        refine J.goto 23 dL_law_3187 (by decide) ?_
        exact J.pick [3, 4, 5, 6, 0] rfl (hK23 _ _ _ _ _ _ _ _ _ hw)
      · obtain ⟨-, hw⟩ := hw
        specialize hw c1309
        refine J.iconst (v := (0 : Int32)) dL_law_1312 (by decide) ?_
        exact J.zret rfl rfl dL_law_1313 ⟨_, _, _, rfl, _, rfl, hw⟩
  · obtain ⟨-, hw⟩ := hw
    specialize hw c1292
    refine J.iconst (v := (0 : Int32)) dL_law_1295 (by decide) ?_
    exact J.zret rfl rfl dL_law_1296 ⟨_, _, _, rfl, _, rfl, hw⟩
def wL_law_1317 (G : jG) (Q : Int32 → List jH → (Nat → Nat → Int32) → (Nat → Nat → Option Nat) → Prop) (K23 : List jH → (Nat → Nat → Int32) → (Nat → Nat → Option Nat) → Nat → Nat → Nat → Nat → Nat → Int32 → Prop) (sh : List jH) (V : Nat → Nat → Int32) (R : Nat → Nat → Option Nat) (c : Nat) (n : Nat) (x1 : Nat) (x2 : Nat) (x3 : Nat) (x4 : Int32) : Prop :=
  (vp_in (x4 + (1 : Int32)) (jScN G) ∧ (vp_in (x4 + (2 : Int32)) (jScN G) ∧ (jReg shX1 sh x1 ∧ (∃ c11331 n11331 c21331 n21331 : Nat, c11331 + c21331 ≤ c ∧ n11331 + n21331 ≤ n ∧ (wX0_gate x1 sh V R c11331 n11331 (jScF G (x4 + (1 : Int32)).toNatClampNeg) (jScF G (x4 + (2 : Int32)).toNatClampNeg) x3 (fun r1331 sh1331 V1331 R1331 => (vp_in (x4 + (1 : Int32)) (jScN G) ∧ (vp_in (x4 + (2 : Int32)) (jScN G) ∧ (jReg shX6 sh1331 x2 ∧ (wX6_gate x2 V1331 (jScF G (x4 + (1 : Int32)).toNatClampNeg) (jScF G (x4 + (2 : Int32)).toNatClampNeg) (fun r1349 V1349 => (jReg shX6 sh1331 x2 ∧ (wX6_thrown x2 V1349 (fun r1355 => ((r1355 = r1331 → ((¬ r1331 = 0 → (∀ y3184 : Int32, y3184 = x4 + (6 : Int32) → K23 sh1331 V1349 R1331 c21331 n21331 x1 x2 x3 y3184)) ∧ (r1331 = 0 → (∃ f1372 : Nat → Int64, sh1331[x3]? = some (jF (.inl (3, 1, .inr (.inl f1372)))) ∧ jn ≤ x3 ∧ (((lg_cmp (f1372 0) r1349.toInt64) = 0 → (∀ y3184 : Int32, y3184 = x4 + (6 : Int32) → K23 sh1331 V1349 R1331 c21331 n21331 x1 x2 x3 y3184)) ∧ (¬ (lg_cmp (f1372 0) r1349.toInt64) = 0 → Q (0 : Int32) sh1331 V1349 R1331)))))) ∧ (¬ r1355 = r1331 → Q (0 : Int32) sh1331 V1349 R1331))))))))))))))))
theorem rL_law_1317 {G : jG} {l : Launch} {d : Nat} (htr : l.stackTraces = false) (hdd : 107 ≤ d) {Q : Int32 → List jH → (Nat → Nat → Int32) → (Nat → Nat → Option Nat) → Prop} {K23 : List jH → (Nat → Nat → Int32) → (Nat → Nat → Option Nat) → Nat → Nat → Nat → Nat → Nat → Int32 → Prop} (hK23 : ∀ (sh : List jH) (V : Nat → Nat → Int32) (R : Nat → Nat → Option Nat) (c : Nat) (n : Nat) (x1 : Nat) (x2 : Nat) (x3 : Nat) (x4 : Int32), K23 sh V R c n x1 x2 x3 x4 → J G l ML_law d c n 23 [(0, .ref 69), (1, .ref x1), (2, .ref x2), (3, .ref x3), (4, .int x4)] [] (mk sh V R) (jSr Q) jNo) {sh : List jH} {V : Nat → Nat → Int32} {R : Nat → Nat → Option Nat} {c : Nat} {n : Nat} {x1 : Nat} {x2 : Nat} {x3 : Nat} {x4 : Int32} (hw : wL_law_1317 G Q K23 sh V R c n x1 x2 x3 x4) : J G l ML_law d c n 1317 [(0, .ref 69), (1, .ref x1), (2, .ref x2), (3, .ref x3), (4, .int x4)] [] (mk sh V R) (jSr Q) jNo := by
  unfold wL_law_1317 at hw
  refine J.aload_n 1 dL_law_1317 rfl ?_
  refine J.aload_n 0 dL_law_1318 rfl ?_
  refine J.iload 4 dL_law_1319 rfl ?_
  refine J.iconst (v := (1 : Int32)) dL_law_1321 (by decide) ?_
  refine J.iadd dL_law_1322 ?_
  obtain ⟨h1323, hw⟩ := hw
  refine J.sld dL_law_1323 h1323 ?_
  refine J.aload_n 0 dL_law_1324 rfl ?_
  refine J.iload 4 dL_law_1325 rfl ?_
  refine J.iconst (v := (2 : Int32)) dL_law_1327 (by decide) ?_
  refine J.iadd dL_law_1328 ?_
  obtain ⟨h1329, hw⟩ := hw
  refine J.sld dL_law_1329 h1329 ?_
  refine J.aload_n 3 dL_law_1330 rfl ?_
  obtain ⟨hq1331_x1, hw⟩ := hw
  obtain ⟨c11331, n11331, c21331, n21331, hc1331, hd1331, hw⟩ := hw
  refine uL_205 rfl htr hq1331_x1 dL_law_1331 (by omega) (Nat.le_of_ble_eq_true rfl) hw ⟨hc1331, hd1331⟩ ?_
  clear hw
  intro r1331 sh1331 V1331 R1331 hw
  refine J.istore (lv' := [(5, .int r1331), (0, .ref 69), (1, .ref x1), (2, .ref x2), (3, .ref x3), (4, .int x4)]) dL_law_1334 (by decide) rfl ?_
  refine J.aload_n 3 dL_law_1336 rfl ?_
  refine J.aload_n 1 dL_law_1337 rfl ?_
  refine J.iload 5 dL_law_1338 rfl ?_
  refine J.iconst (v := (1 : Int32)) dL_law_1340 (by decide) ?_
  refine J.iadd dL_law_1341 ?_
  obtain ⟨h1342, hw⟩ := hw
  refine J.sld dL_law_1342 h1342 ?_
  refine J.aload_n 1 dL_law_1343 rfl ?_
  refine J.iload 5 dL_law_1344 rfl ?_
  refine J.iconst (v := (2 : Int32)) dL_law_1346 (by decide) ?_
  refine J.iadd dL_law_1347 ?_
  obtain ⟨h1348, hw⟩ := hw
  refine J.sld dL_law_1348 h1348 ?_
  obtain ⟨hq1349_x2, hw⟩ := hw
  refine uL_207 rfl htr hq1349_x2 dL_law_1349 (by omega) (Nat.le_of_ble_eq_true rfl) hw ?_
  clear hw
  intro r1349 V1349 hw
  refine J.istore (lv' := [(6, .int r1349), (5, .int r1331), (0, .ref 69), (1, .ref x1), (2, .ref x2), (3, .ref x3), (4, .int x4)]) dL_law_1352 (by decide) rfl ?_
  refine J.aload_n 4 dL_law_1354 rfl ?_
  obtain ⟨hq1355_x2, hw⟩ := hw
  refine uL_159 rfl htr hq1355_x2 dL_law_1355 (by omega) (Nat.le_of_ble_eq_true rfl) hw ?_
  clear hw
  intro r1355 hw
  refine J.iload 1 dL_law_1358 rfl ?_
  refine J.icmp_eq 1365 dL_law_1360 (by decide) ⟨fun c1360 => ?_, fun c1360 => ?_⟩
  · obtain ⟨hw, -⟩ := hw
    specialize hw c1360
    refine J.iload 1 dL_law_1365 rfl ?_
    refine J.if_ne 1382 dL_law_1367 (by decide) ⟨fun c1367 => ?_, fun c1367 => ?_⟩
    · obtain ⟨hw, -⟩ := hw
      specialize hw c1367
      refine J.goto 3184 dL_law_1382 (by decide) ?_
      refine J.iincN 6 (K := (6 : Int32)) (lv' := fun y3184 => [(4, .int y3184), (6, .int r1349), (5, .int r1331), (0, .ref 69), (1, .ref x1), (2, .ref x2), (3, .ref x3)]) dL_law_3184 rfl (by decide) (by decide) (fun _ => rfl) hw ?_
      clear hw
      intro y3184 hw
      refine J.goto 23 dL_law_3187 (by decide) ?_
      exact J.pick [3, 4, 5, 6, 0] rfl (hK23 _ _ _ _ _ _ _ _ _ hw)
    · obtain ⟨-, hw⟩ := hw
      specialize hw c1367
      refine J.aload_n 5 dL_law_1370 rfl ?_
      refine J.iconst (v := (0 : Int32)) dL_law_1371 (by decide) ?_
      obtain ⟨f1372, hk1372, hn1372, hw⟩ := hw
      refine JV.lald0 dL_law_1372 hn1372 hk1372 ?_
      refine J.iload 0 dL_law_1373 rfl ?_
      refine J.i2l dL_law_1375 ?_
      refine J.lcmp dL_law_1376 ?_
      refine J.if_eq 1382 dL_law_1377 (by decide) ⟨fun c1377 => ?_, fun c1377 => ?_⟩
      · obtain ⟨hw, -⟩ := hw
        specialize hw c1377
        refine J.goto 3184 dL_law_1382 (by decide) ?_
        refine J.iincN 6 (K := (6 : Int32)) (lv' := fun y3184 => [(4, .int y3184), (6, .int r1349), (5, .int r1331), (0, .ref 69), (1, .ref x1), (2, .ref x2), (3, .ref x3)]) dL_law_3184 rfl (by decide) (by decide) (fun _ => rfl) hw ?_
        clear hw
        intro y3184 hw
        refine J.goto 23 dL_law_3187 (by decide) ?_
        exact J.pick [3, 4, 5, 6, 0] rfl (hK23 _ _ _ _ _ _ _ _ _ hw)
      · obtain ⟨-, hw⟩ := hw
        specialize hw c1377
        refine J.iconst (v := (0 : Int32)) dL_law_1380 (by decide) ?_
        exact J.zret rfl rfl dL_law_1381 ⟨_, _, _, rfl, _, rfl, hw⟩
  · obtain ⟨-, hw⟩ := hw
    specialize hw c1360
    refine J.iconst (v := (0 : Int32)) dL_law_1363 (by decide) ?_
    exact J.zret rfl rfl dL_law_1364 ⟨_, _, _, rfl, _, rfl, hw⟩
def wL_law_1451 (G : jG) (Q : Int32 → List jH → (Nat → Nat → Int32) → (Nat → Nat → Option Nat) → Prop) (K23 : List jH → (Nat → Nat → Int32) → (Nat → Nat → Option Nat) → Nat → Nat → Nat → Nat → Nat → Int32 → Prop) (sh : List jH) (V : Nat → Nat → Int32) (R : Nat → Nat → Option Nat) (c : Nat) (n : Nat) (x1 : Nat) (x2 : Nat) (x3 : Nat) (x4 : Int32) (x5 : Int32) (s0 : Nat) (s1 : Int32) (s2 : Int32) (s3 : Int32) : Prop :=
  (vp_in (x4 + (4 : Int32)) (jScN G) ∧ (jReg shX6 sh s0 ∧ (wX6_value s0 V s1 s2 s3 (jScF G (x4 + (4 : Int32)).toNatClampNeg) (fun r1457 V1457 => (jReg shX6 sh x2 ∧ (wX6_thrown x2 V1457 (fun r1463 => ((r1463 = x5 → ((¬ x5 = 0 → (∀ y3184 : Int32, y3184 = x4 + (6 : Int32) → K23 sh V1457 R c n x1 x2 x3 y3184)) ∧ (x5 = 0 → (∃ f1480 : Nat → Int64, sh[x3]? = some (jF (.inl (3, 1, .inr (.inl f1480)))) ∧ jn ≤ x3 ∧ (((lg_cmp (f1480 0) r1457.toInt64) = 0 → (∀ y3184 : Int32, y3184 = x4 + (6 : Int32) → K23 sh V1457 R c n x1 x2 x3 y3184)) ∧ (¬ (lg_cmp (f1480 0) r1457.toInt64) = 0 → Q (0 : Int32) sh V1457 R)))))) ∧ (¬ r1463 = x5 → Q (0 : Int32) sh V1457 R)))))))))
theorem rL_law_1451 {G : jG} {l : Launch} {d : Nat} (htr : l.stackTraces = false) (hdd : 107 ≤ d) {Q : Int32 → List jH → (Nat → Nat → Int32) → (Nat → Nat → Option Nat) → Prop} {K23 : List jH → (Nat → Nat → Int32) → (Nat → Nat → Option Nat) → Nat → Nat → Nat → Nat → Nat → Int32 → Prop} (hK23 : ∀ (sh : List jH) (V : Nat → Nat → Int32) (R : Nat → Nat → Option Nat) (c : Nat) (n : Nat) (x1 : Nat) (x2 : Nat) (x3 : Nat) (x4 : Int32), K23 sh V R c n x1 x2 x3 x4 → J G l ML_law d c n 23 [(0, .ref 69), (1, .ref x1), (2, .ref x2), (3, .ref x3), (4, .int x4)] [] (mk sh V R) (jSr Q) jNo) {sh : List jH} {V : Nat → Nat → Int32} {R : Nat → Nat → Option Nat} {c : Nat} {n : Nat} {x1 : Nat} {x2 : Nat} {x3 : Nat} {x4 : Int32} {x5 : Int32} {s0 : Nat} {s1 : Int32} {s2 : Int32} {s3 : Int32} (hw : wL_law_1451 G Q K23 sh V R c n x1 x2 x3 x4 x5 s0 s1 s2 s3) : J G l ML_law d c n 1451 [(0, .ref 69), (1, .ref x1), (2, .ref x2), (3, .ref x3), (4, .int x4), (5, .int x5)] [.int s3, .int s2, .int s1, .ref s0] (mk sh V R) (jSr Q) jNo := by
  unfold wL_law_1451 at hw
  refine J.aload_n 0 dL_law_1451 rfl ?_
  refine J.iload 4 dL_law_1452 rfl ?_
  refine J.iconst (v := (4 : Int32)) dL_law_1454 (by decide) ?_
  refine J.iadd dL_law_1455 ?_
  obtain ⟨h1456, hw⟩ := hw
  refine J.sld dL_law_1456 h1456 ?_
  obtain ⟨hq1457_s0, hw⟩ := hw
  refine uL_211 rfl htr hq1457_s0 dL_law_1457 (by omega) (Nat.le_of_ble_eq_true rfl) hw ?_
  clear hw
  intro r1457 V1457 hw
  refine J.istore (lv' := [(6, .int r1457), (0, .ref 69), (1, .ref x1), (2, .ref x2), (3, .ref x3), (4, .int x4), (5, .int x5)]) dL_law_1460 (by decide) rfl ?_
  refine J.aload_n 3 dL_law_1462 rfl ?_
  obtain ⟨hq1463_x2, hw⟩ := hw
  refine uL_159 rfl htr hq1463_x2 dL_law_1463 (by omega) (Nat.le_of_ble_eq_true rfl) hw ?_
  clear hw
  intro r1463 hw
  refine J.iload 6 dL_law_1466 rfl ?_
  refine J.icmp_eq 1473 dL_law_1468 (by decide) ⟨fun c1468 => ?_, fun c1468 => ?_⟩
  · obtain ⟨hw, -⟩ := hw
    specialize hw c1468
    refine J.iload 6 dL_law_1473 rfl ?_
    refine J.if_ne 1490 dL_law_1475 (by decide) ⟨fun c1475 => ?_, fun c1475 => ?_⟩
    · obtain ⟨hw, -⟩ := hw
      specialize hw c1475
      refine J.goto 3184 dL_law_1490 (by decide) ?_
      refine J.iincN 5 (K := (6 : Int32)) (lv' := fun y3184 => [(4, .int y3184), (6, .int r1457), (0, .ref 69), (1, .ref x1), (2, .ref x2), (3, .ref x3), (5, .int x5)]) dL_law_3184 rfl (by decide) (by decide) (fun _ => rfl) hw ?_
      clear hw
      intro y3184 hw
      refine J.goto 23 dL_law_3187 (by decide) ?_
      exact J.pick [2, 3, 4, 5, 0] rfl (hK23 _ _ _ _ _ _ _ _ _ hw)
    · obtain ⟨-, hw⟩ := hw
      specialize hw c1475
      refine J.aload_n 4 dL_law_1478 rfl ?_
      refine J.iconst (v := (0 : Int32)) dL_law_1479 (by decide) ?_
      obtain ⟨f1480, hk1480, hn1480, hw⟩ := hw
      refine JV.lald0 dL_law_1480 hn1480 hk1480 ?_
      refine J.iload 0 dL_law_1481 rfl ?_
      refine J.i2l dL_law_1483 ?_
      refine J.lcmp dL_law_1484 ?_
      refine J.if_eq 1490 dL_law_1485 (by decide) ⟨fun c1485 => ?_, fun c1485 => ?_⟩
      · obtain ⟨hw, -⟩ := hw
        specialize hw c1485
        refine J.goto 3184 dL_law_1490 (by decide) ?_
        refine J.iincN 5 (K := (6 : Int32)) (lv' := fun y3184 => [(4, .int y3184), (6, .int r1457), (0, .ref 69), (1, .ref x1), (2, .ref x2), (3, .ref x3), (5, .int x5)]) dL_law_3184 rfl (by decide) (by decide) (fun _ => rfl) hw ?_
        clear hw
        intro y3184 hw
        refine J.goto 23 dL_law_3187 (by decide) ?_
        exact J.pick [2, 3, 4, 5, 0] rfl (hK23 _ _ _ _ _ _ _ _ _ hw)
      · obtain ⟨-, hw⟩ := hw
        specialize hw c1485
        refine J.iconst (v := (0 : Int32)) dL_law_1488 (by decide) ?_
        exact J.zret rfl rfl dL_law_1489 ⟨_, _, _, rfl, _, rfl, hw⟩
  · obtain ⟨-, hw⟩ := hw
    specialize hw c1468
    refine J.iconst (v := (0 : Int32)) dL_law_1471 (by decide) ?_
    exact J.zret rfl rfl dL_law_1472 ⟨_, _, _, rfl, _, rfl, hw⟩
def wL_law_1412 (G : jG) (Q : Int32 → List jH → (Nat → Nat → Int32) → (Nat → Nat → Option Nat) → Prop) (K23 : List jH → (Nat → Nat → Int32) → (Nat → Nat → Option Nat) → Nat → Nat → Nat → Nat → Nat → Int32 → Prop) (sh : List jH) (V : Nat → Nat → Int32) (R : Nat → Nat → Option Nat) (c : Nat) (n : Nat) (x1 : Nat) (x2 : Nat) (x3 : Nat) (x4 : Int32) (s0 : Nat) (s1 : Int32) (s2 : Int32) (s3 : Int32) : Prop :=
  (vp_in (x4 + (4 : Int32)) (jScN G) ∧ (jReg shX1 sh s0 ∧ (∃ c11419 n11419 c21419 n21419 : Nat, c11419 + c21419 ≤ c ∧ n11419 + n21419 ≤ n ∧ (wX0_value s0 sh V R c11419 n11419 s1 s2 s3 (jScF G (x4 + (4 : Int32)).toNatClampNeg) x3 (fun r1419 sh1419 V1419 R1419 => (vp_in (x4 + (1 : Int32)) (jScN G) ∧ (vp_in (x4 + (2 : Int32)) (jScN G) ∧ (vp_in (x4 + (3 : Int32)) (jScN G) ∧ (((jScF G (x4 + (3 : Int32)).toNatClampNeg) = 0 → wL_law_1451 G Q K23 sh1419 V1419 R1419 c21419 n21419 x1 x2 x3 x4 r1419 x2 (jScF G (x4 + (1 : Int32)).toNatClampNeg) (jScF G (x4 + (2 : Int32)).toNatClampNeg) (0 : Int32)) ∧ (¬ (jScF G (x4 + (3 : Int32)).toNatClampNeg) = 0 → wL_law_1451 G Q K23 sh1419 V1419 R1419 c21419 n21419 x1 x2 x3 x4 r1419 x2 (jScF G (x4 + (1 : Int32)).toNatClampNeg) (jScF G (x4 + (2 : Int32)).toNatClampNeg) (1 : Int32)))))))))))
theorem rL_law_1412 {G : jG} {l : Launch} {d : Nat} (htr : l.stackTraces = false) (hdd : 107 ≤ d) {Q : Int32 → List jH → (Nat → Nat → Int32) → (Nat → Nat → Option Nat) → Prop} {K23 : List jH → (Nat → Nat → Int32) → (Nat → Nat → Option Nat) → Nat → Nat → Nat → Nat → Nat → Int32 → Prop} (hK23 : ∀ (sh : List jH) (V : Nat → Nat → Int32) (R : Nat → Nat → Option Nat) (c : Nat) (n : Nat) (x1 : Nat) (x2 : Nat) (x3 : Nat) (x4 : Int32), K23 sh V R c n x1 x2 x3 x4 → J G l ML_law d c n 23 [(0, .ref 69), (1, .ref x1), (2, .ref x2), (3, .ref x3), (4, .int x4)] [] (mk sh V R) (jSr Q) jNo) {sh : List jH} {V : Nat → Nat → Int32} {R : Nat → Nat → Option Nat} {c : Nat} {n : Nat} {x1 : Nat} {x2 : Nat} {x3 : Nat} {x4 : Int32} {s0 : Nat} {s1 : Int32} {s2 : Int32} {s3 : Int32} (hw : wL_law_1412 G Q K23 sh V R c n x1 x2 x3 x4 s0 s1 s2 s3) : J G l ML_law d c n 1412 [(0, .ref 69), (1, .ref x1), (2, .ref x2), (3, .ref x3), (4, .int x4)] [.int s3, .int s2, .int s1, .ref s0] (mk sh V R) (jSr Q) jNo := by
  unfold wL_law_1412 at hw
  refine J.aload_n 0 dL_law_1412 rfl ?_
  refine J.iload 4 dL_law_1413 rfl ?_
  refine J.iconst (v := (4 : Int32)) dL_law_1415 (by decide) ?_
  refine J.iadd dL_law_1416 ?_
  obtain ⟨h1417, hw⟩ := hw
  refine J.sld dL_law_1417 h1417 ?_
  refine J.aload_n 3 dL_law_1418 rfl ?_
  obtain ⟨hq1419_s0, hw⟩ := hw
  obtain ⟨c11419, n11419, c21419, n21419, hc1419, hd1419, hw⟩ := hw
  refine uL_208 rfl htr hq1419_s0 dL_law_1419 (by omega) (Nat.le_of_ble_eq_true rfl) hw ⟨hc1419, hd1419⟩ ?_
  clear hw
  intro r1419 sh1419 V1419 R1419 hw
  refine J.istore (lv' := [(5, .int r1419), (0, .ref 69), (1, .ref x1), (2, .ref x2), (3, .ref x3), (4, .int x4)]) dL_law_1422 (by decide) rfl ?_
  refine J.aload_n 3 dL_law_1424 rfl ?_
  refine J.aload_n 1 dL_law_1425 rfl ?_
  refine J.iload 5 dL_law_1426 rfl ?_
  refine J.iconst (v := (1 : Int32)) dL_law_1428 (by decide) ?_
  refine J.iadd dL_law_1429 ?_
  obtain ⟨h1430, hw⟩ := hw
  refine J.sld dL_law_1430 h1430 ?_
  refine J.aload_n 1 dL_law_1431 rfl ?_
  refine J.iload 5 dL_law_1432 rfl ?_
  refine J.iconst (v := (2 : Int32)) dL_law_1434 (by decide) ?_
  refine J.iadd dL_law_1435 ?_
  obtain ⟨h1436, hw⟩ := hw
  refine J.sld dL_law_1436 h1436 ?_
  refine J.aload_n 1 dL_law_1437 rfl ?_
  refine J.iload 5 dL_law_1438 rfl ?_
  refine J.iconst (v := (3 : Int32)) dL_law_1440 (by decide) ?_
  refine J.iadd dL_law_1441 ?_
  obtain ⟨h1442, hw⟩ := hw
  refine J.sld dL_law_1442 h1442 ?_
  refine J.if_eq 1450 dL_law_1443 (by decide) ⟨fun c1443 => ?_, fun c1443 => ?_⟩
  · obtain ⟨hw, -⟩ := hw
    specialize hw c1443
    refine J.iconst (v := (0 : Int32)) dL_law_1450 (by decide) ?_
    exact J.pick [1, 2, 3, 4, 5, 0] rfl (rL_law_1451 htr hdd hK23 hw)
  · obtain ⟨-, hw⟩ := hw
    specialize hw c1443
    refine J.iconst (v := (1 : Int32)) dL_law_1446 (by decide) ?_
    refine J.goto 1451 dL_law_1447 (by decide) ?_
    exact J.pick [1, 2, 3, 4, 5, 0] rfl (rL_law_1451 htr hdd hK23 hw)
def wL_law_1385 (G : jG) (Q : Int32 → List jH → (Nat → Nat → Int32) → (Nat → Nat → Option Nat) → Prop) (K23 : List jH → (Nat → Nat → Int32) → (Nat → Nat → Option Nat) → Nat → Nat → Nat → Nat → Nat → Int32 → Prop) (sh : List jH) (V : Nat → Nat → Int32) (R : Nat → Nat → Option Nat) (c : Nat) (n : Nat) (x1 : Nat) (x2 : Nat) (x3 : Nat) (x4 : Int32) : Prop :=
  (vp_in (x4 + (1 : Int32)) (jScN G) ∧ (vp_in (x4 + (2 : Int32)) (jScN G) ∧ (vp_in (x4 + (3 : Int32)) (jScN G) ∧ (((jScF G (x4 + (3 : Int32)).toNatClampNeg) = 0 → wL_law_1412 G Q K23 sh V R c n x1 x2 x3 x4 x1 (jScF G (x4 + (1 : Int32)).toNatClampNeg) (jScF G (x4 + (2 : Int32)).toNatClampNeg) (0 : Int32)) ∧ (¬ (jScF G (x4 + (3 : Int32)).toNatClampNeg) = 0 → wL_law_1412 G Q K23 sh V R c n x1 x2 x3 x4 x1 (jScF G (x4 + (1 : Int32)).toNatClampNeg) (jScF G (x4 + (2 : Int32)).toNatClampNeg) (1 : Int32))))))
theorem rL_law_1385 {G : jG} {l : Launch} {d : Nat} (htr : l.stackTraces = false) (hdd : 107 ≤ d) {Q : Int32 → List jH → (Nat → Nat → Int32) → (Nat → Nat → Option Nat) → Prop} {K23 : List jH → (Nat → Nat → Int32) → (Nat → Nat → Option Nat) → Nat → Nat → Nat → Nat → Nat → Int32 → Prop} (hK23 : ∀ (sh : List jH) (V : Nat → Nat → Int32) (R : Nat → Nat → Option Nat) (c : Nat) (n : Nat) (x1 : Nat) (x2 : Nat) (x3 : Nat) (x4 : Int32), K23 sh V R c n x1 x2 x3 x4 → J G l ML_law d c n 23 [(0, .ref 69), (1, .ref x1), (2, .ref x2), (3, .ref x3), (4, .int x4)] [] (mk sh V R) (jSr Q) jNo) {sh : List jH} {V : Nat → Nat → Int32} {R : Nat → Nat → Option Nat} {c : Nat} {n : Nat} {x1 : Nat} {x2 : Nat} {x3 : Nat} {x4 : Int32} (hw : wL_law_1385 G Q K23 sh V R c n x1 x2 x3 x4) : J G l ML_law d c n 1385 [(0, .ref 69), (1, .ref x1), (2, .ref x2), (3, .ref x3), (4, .int x4)] [] (mk sh V R) (jSr Q) jNo := by
  unfold wL_law_1385 at hw
  refine J.aload_n 1 dL_law_1385 rfl ?_
  refine J.aload_n 0 dL_law_1386 rfl ?_
  refine J.iload 4 dL_law_1387 rfl ?_
  refine J.iconst (v := (1 : Int32)) dL_law_1389 (by decide) ?_
  refine J.iadd dL_law_1390 ?_
  obtain ⟨h1391, hw⟩ := hw
  refine J.sld dL_law_1391 h1391 ?_
  refine J.aload_n 0 dL_law_1392 rfl ?_
  refine J.iload 4 dL_law_1393 rfl ?_
  refine J.iconst (v := (2 : Int32)) dL_law_1395 (by decide) ?_
  refine J.iadd dL_law_1396 ?_
  obtain ⟨h1397, hw⟩ := hw
  refine J.sld dL_law_1397 h1397 ?_
  refine J.aload_n 0 dL_law_1398 rfl ?_
  refine J.iload 4 dL_law_1399 rfl ?_
  refine J.iconst (v := (3 : Int32)) dL_law_1401 (by decide) ?_
  refine J.iadd dL_law_1402 ?_
  obtain ⟨h1403, hw⟩ := hw
  refine J.sld dL_law_1403 h1403 ?_
  refine J.if_eq 1411 dL_law_1404 (by decide) ⟨fun c1404 => ?_, fun c1404 => ?_⟩
  · obtain ⟨hw, -⟩ := hw
    specialize hw c1404
    refine J.iconst (v := (0 : Int32)) dL_law_1411 (by decide) ?_
    exact (rL_law_1412 htr hdd hK23 hw)
  · obtain ⟨-, hw⟩ := hw
    specialize hw c1404
    refine J.iconst (v := (1 : Int32)) dL_law_1407 (by decide) ?_
    refine J.goto 1412 dL_law_1408 (by decide) ?_
    exact (rL_law_1412 htr hdd hK23 hw)
def wL_law_1493 (G : jG) (Q : Int32 → List jH → (Nat → Nat → Int32) → (Nat → Nat → Option Nat) → Prop) (K23 : List jH → (Nat → Nat → Int32) → (Nat → Nat → Option Nat) → Nat → Nat → Nat → Nat → Nat → Int32 → Prop) (sh : List jH) (V : Nat → Nat → Int32) (R : Nat → Nat → Option Nat) (c : Nat) (n : Nat) (x1 : Nat) (x2 : Nat) (x3 : Nat) (x4 : Int32) : Prop :=
  (vp_in (x4 + (1 : Int32)) (jScN G) ∧ (jReg shX1 sh x1 ∧ (∃ c11501 n11501 c21501 n21501 : Nat, c11501 + c21501 ≤ c ∧ n11501 + n21501 ≤ n ∧ (wX0_weeks x1 sh V R c11501 n11501 (jScF G (x4 + (1 : Int32)).toNatClampNeg) x3 (fun r1501 sh1501 V1501 R1501 => (vp_in (x4 + (1 : Int32)) (jScN G) ∧ (jReg shX6 sh1501 x2 ∧ (wX6_weeks x2 sh1501 R1501 V1501 (jScF G (x4 + (1 : Int32)).toNatClampNeg) (fun r1513 V1513 => (jReg shX6 sh1501 x2 ∧ (wX6_thrown x2 V1513 (fun r1519 => ((r1519 = r1501 → ((¬ r1501 = 0 → (∀ y3184 : Int32, y3184 = x4 + (6 : Int32) → K23 sh1501 V1513 R1501 c21501 n21501 x1 x2 x3 y3184)) ∧ (r1501 = 0 → (∃ f1536 : Nat → Int64, sh1501[x3]? = some (jF (.inl (3, 1, .inr (.inl f1536)))) ∧ jn ≤ x3 ∧ (((lg_cmp (f1536 0) r1513.toInt64) = 0 → (∀ y3184 : Int32, y3184 = x4 + (6 : Int32) → K23 sh1501 V1513 R1501 c21501 n21501 x1 x2 x3 y3184)) ∧ (¬ (lg_cmp (f1536 0) r1513.toInt64) = 0 → Q (0 : Int32) sh1501 V1513 R1501)))))) ∧ (¬ r1519 = r1501 → Q (0 : Int32) sh1501 V1513 R1501))))))))))))))
theorem rL_law_1493 {G : jG} {l : Launch} {d : Nat} (htr : l.stackTraces = false) (hdd : 107 ≤ d) {Q : Int32 → List jH → (Nat → Nat → Int32) → (Nat → Nat → Option Nat) → Prop} {K23 : List jH → (Nat → Nat → Int32) → (Nat → Nat → Option Nat) → Nat → Nat → Nat → Nat → Nat → Int32 → Prop} (hK23 : ∀ (sh : List jH) (V : Nat → Nat → Int32) (R : Nat → Nat → Option Nat) (c : Nat) (n : Nat) (x1 : Nat) (x2 : Nat) (x3 : Nat) (x4 : Int32), K23 sh V R c n x1 x2 x3 x4 → J G l ML_law d c n 23 [(0, .ref 69), (1, .ref x1), (2, .ref x2), (3, .ref x3), (4, .int x4)] [] (mk sh V R) (jSr Q) jNo) {sh : List jH} {V : Nat → Nat → Int32} {R : Nat → Nat → Option Nat} {c : Nat} {n : Nat} {x1 : Nat} {x2 : Nat} {x3 : Nat} {x4 : Int32} (hw : wL_law_1493 G Q K23 sh V R c n x1 x2 x3 x4) : J G l ML_law d c n 1493 [(0, .ref 69), (1, .ref x1), (2, .ref x2), (3, .ref x3), (4, .int x4)] [] (mk sh V R) (jSr Q) jNo := by
  unfold wL_law_1493 at hw
  refine J.aload_n 1 dL_law_1493 rfl ?_
  refine J.aload_n 0 dL_law_1494 rfl ?_
  refine J.iload 4 dL_law_1495 rfl ?_
  refine J.iconst (v := (1 : Int32)) dL_law_1497 (by decide) ?_
  refine J.iadd dL_law_1498 ?_
  obtain ⟨h1499, hw⟩ := hw
  refine J.sld dL_law_1499 h1499 ?_
  refine J.aload_n 3 dL_law_1500 rfl ?_
  obtain ⟨hq1501_x1, hw⟩ := hw
  obtain ⟨c11501, n11501, c21501, n21501, hc1501, hd1501, hw⟩ := hw
  refine uL_212 rfl htr hq1501_x1 dL_law_1501 (by omega) (Nat.le_of_ble_eq_true rfl) hw ⟨hc1501, hd1501⟩ ?_
  clear hw
  intro r1501 sh1501 V1501 R1501 hw
  refine J.istore (lv' := [(5, .int r1501), (0, .ref 69), (1, .ref x1), (2, .ref x2), (3, .ref x3), (4, .int x4)]) dL_law_1504 (by decide) rfl ?_
  refine J.aload_n 3 dL_law_1506 rfl ?_
  refine J.aload_n 1 dL_law_1507 rfl ?_
  refine J.iload 5 dL_law_1508 rfl ?_
  refine J.iconst (v := (1 : Int32)) dL_law_1510 (by decide) ?_
  refine J.iadd dL_law_1511 ?_
  obtain ⟨h1512, hw⟩ := hw
  refine J.sld dL_law_1512 h1512 ?_
  obtain ⟨hq1513_x2, hw⟩ := hw
  refine uL_215 rfl htr hq1513_x2 dL_law_1513 (by omega) (Nat.le_of_ble_eq_true rfl) hw ?_
  clear hw
  intro r1513 V1513 hw
  refine J.istore (lv' := [(6, .int r1513), (5, .int r1501), (0, .ref 69), (1, .ref x1), (2, .ref x2), (3, .ref x3), (4, .int x4)]) dL_law_1516 (by decide) rfl ?_
  refine J.aload_n 4 dL_law_1518 rfl ?_
  obtain ⟨hq1519_x2, hw⟩ := hw
  refine uL_159 rfl htr hq1519_x2 dL_law_1519 (by omega) (Nat.le_of_ble_eq_true rfl) hw ?_
  clear hw
  intro r1519 hw
  refine J.iload 1 dL_law_1522 rfl ?_
  refine J.icmp_eq 1529 dL_law_1524 (by decide) ⟨fun c1524 => ?_, fun c1524 => ?_⟩
  · obtain ⟨hw, -⟩ := hw
    specialize hw c1524
    refine J.iload 1 dL_law_1529 rfl ?_
    refine J.if_ne 1546 dL_law_1531 (by decide) ⟨fun c1531 => ?_, fun c1531 => ?_⟩
    · obtain ⟨hw, -⟩ := hw
      specialize hw c1531
      refine J.goto 3184 dL_law_1546 (by decide) ?_
      refine J.iincN 6 (K := (6 : Int32)) (lv' := fun y3184 => [(4, .int y3184), (6, .int r1513), (5, .int r1501), (0, .ref 69), (1, .ref x1), (2, .ref x2), (3, .ref x3)]) dL_law_3184 rfl (by decide) (by decide) (fun _ => rfl) hw ?_
      clear hw
      intro y3184 hw
      refine J.goto 23 dL_law_3187 (by decide) ?_
      exact J.pick [3, 4, 5, 6, 0] rfl (hK23 _ _ _ _ _ _ _ _ _ hw)
    · obtain ⟨-, hw⟩ := hw
      specialize hw c1531
      refine J.aload_n 5 dL_law_1534 rfl ?_
      refine J.iconst (v := (0 : Int32)) dL_law_1535 (by decide) ?_
      obtain ⟨f1536, hk1536, hn1536, hw⟩ := hw
      refine JV.lald0 dL_law_1536 hn1536 hk1536 ?_
      refine J.iload 0 dL_law_1537 rfl ?_
      refine J.i2l dL_law_1539 ?_
      refine J.lcmp dL_law_1540 ?_
      refine J.if_eq 1546 dL_law_1541 (by decide) ⟨fun c1541 => ?_, fun c1541 => ?_⟩
      · obtain ⟨hw, -⟩ := hw
        specialize hw c1541
        refine J.goto 3184 dL_law_1546 (by decide) ?_
        refine J.iincN 6 (K := (6 : Int32)) (lv' := fun y3184 => [(4, .int y3184), (6, .int r1513), (5, .int r1501), (0, .ref 69), (1, .ref x1), (2, .ref x2), (3, .ref x3)]) dL_law_3184 rfl (by decide) (by decide) (fun _ => rfl) hw ?_
        clear hw
        intro y3184 hw
        refine J.goto 23 dL_law_3187 (by decide) ?_
        exact J.pick [3, 4, 5, 6, 0] rfl (hK23 _ _ _ _ _ _ _ _ _ hw)
      · obtain ⟨-, hw⟩ := hw
        specialize hw c1541
        refine J.iconst (v := (0 : Int32)) dL_law_1544 (by decide) ?_
        exact J.zret rfl rfl dL_law_1545 ⟨_, _, _, rfl, _, rfl, hw⟩
  · obtain ⟨-, hw⟩ := hw
    specialize hw c1524
    refine J.iconst (v := (0 : Int32)) dL_law_1527 (by decide) ?_
    exact J.zret rfl rfl dL_law_1528 ⟨_, _, _, rfl, _, rfl, hw⟩
def wL_law_1582 (G : jG) (Q : Int32 → List jH → (Nat → Nat → Int32) → (Nat → Nat → Option Nat) → Prop) (K23 : List jH → (Nat → Nat → Int32) → (Nat → Nat → Option Nat) → Nat → Nat → Nat → Nat → Nat → Int32 → Prop) (sh : List jH) (V : Nat → Nat → Int32) (R : Nat → Nat → Option Nat) (c : Nat) (n : Nat) (x1 : Nat) (x2 : Nat) (x3 : Nat) (x4 : Int32) (s0 : Int32) (s1 : Nat) (s2 : Int32) : Prop :=
  (jReg shX6 sh s1 ∧ (wX6_meetings s1 sh R V s2 (fun r1582 V1582 => ((s0 = r1582 → (∀ y3184 : Int32, y3184 = x4 + (6 : Int32) → K23 sh V1582 R c n x1 x2 x3 y3184)) ∧ (¬ s0 = r1582 → Q (0 : Int32) sh V1582 R)))))
theorem rL_law_1582 {G : jG} {l : Launch} {d : Nat} (htr : l.stackTraces = false) (hdd : 107 ≤ d) {Q : Int32 → List jH → (Nat → Nat → Int32) → (Nat → Nat → Option Nat) → Prop} {K23 : List jH → (Nat → Nat → Int32) → (Nat → Nat → Option Nat) → Nat → Nat → Nat → Nat → Nat → Int32 → Prop} (hK23 : ∀ (sh : List jH) (V : Nat → Nat → Int32) (R : Nat → Nat → Option Nat) (c : Nat) (n : Nat) (x1 : Nat) (x2 : Nat) (x3 : Nat) (x4 : Int32), K23 sh V R c n x1 x2 x3 x4 → J G l ML_law d c n 23 [(0, .ref 69), (1, .ref x1), (2, .ref x2), (3, .ref x3), (4, .int x4)] [] (mk sh V R) (jSr Q) jNo) {sh : List jH} {V : Nat → Nat → Int32} {R : Nat → Nat → Option Nat} {c : Nat} {n : Nat} {x1 : Nat} {x2 : Nat} {x3 : Nat} {x4 : Int32} {s0 : Int32} {s1 : Nat} {s2 : Int32} (hw : wL_law_1582 G Q K23 sh V R c n x1 x2 x3 x4 s0 s1 s2) : J G l ML_law d c n 1582 [(0, .ref 69), (1, .ref x1), (2, .ref x2), (3, .ref x3), (4, .int x4)] [.int s2, .ref s1, .int s0] (mk sh V R) (jSr Q) jNo := by
  unfold wL_law_1582 at hw
  obtain ⟨hq1582_s1, hw⟩ := hw
  refine uL_219 rfl htr hq1582_s1 dL_law_1582 (by omega) (Nat.le_of_ble_eq_true rfl) hw ?_
  clear hw
  intro r1582 V1582 hw
  refine J.icmp_eq 3184 dL_law_1585 (by decide) ⟨fun c1585 => ?_, fun c1585 => ?_⟩
  · obtain ⟨hw, -⟩ := hw
    specialize hw c1585
    refine J.iincN 4 (K := (6 : Int32)) (lv' := fun y3184 => [(4, .int y3184), (0, .ref 69), (1, .ref x1), (2, .ref x2), (3, .ref x3)]) dL_law_3184 rfl (by decide) (by decide) (fun _ => rfl) hw ?_
    clear hw
    intro y3184 hw
    refine J.goto 23 dL_law_3187 (by decide) ?_
    exact J.pick [1, 2, 3, 4, 0] rfl (hK23 _ _ _ _ _ _ _ _ _ hw)
  · obtain ⟨-, hw⟩ := hw
    specialize hw c1585
    refine J.iconst (v := (0 : Int32)) dL_law_1588 (by decide) ?_
    exact J.zret rfl rfl dL_law_1589 ⟨_, _, _, rfl, _, rfl, hw⟩
def wL_law_1564 (G : jG) (Q : Int32 → List jH → (Nat → Nat → Int32) → (Nat → Nat → Option Nat) → Prop) (K23 : List jH → (Nat → Nat → Int32) → (Nat → Nat → Option Nat) → Nat → Nat → Nat → Nat → Nat → Int32 → Prop) (sh : List jH) (V : Nat → Nat → Int32) (R : Nat → Nat → Option Nat) (c : Nat) (n : Nat) (x1 : Nat) (x2 : Nat) (x3 : Nat) (x4 : Int32) (s0 : Nat) (s1 : Int32) : Prop :=
  (jReg shX1 sh s0 ∧ (wX1_meetings s0 sh R V s1 (fun r1564 V1564 => (vp_in (x4 + (1 : Int32)) (jScN G) ∧ (((jScF G (x4 + (1 : Int32)).toNatClampNeg) = 0 → wL_law_1582 G Q K23 sh V1564 R c n x1 x2 x3 x4 r1564 x2 (0 : Int32)) ∧ (¬ (jScF G (x4 + (1 : Int32)).toNatClampNeg) = 0 → wL_law_1582 G Q K23 sh V1564 R c n x1 x2 x3 x4 r1564 x2 (1 : Int32)))))))
theorem rL_law_1564 {G : jG} {l : Launch} {d : Nat} (htr : l.stackTraces = false) (hdd : 107 ≤ d) {Q : Int32 → List jH → (Nat → Nat → Int32) → (Nat → Nat → Option Nat) → Prop} {K23 : List jH → (Nat → Nat → Int32) → (Nat → Nat → Option Nat) → Nat → Nat → Nat → Nat → Nat → Int32 → Prop} (hK23 : ∀ (sh : List jH) (V : Nat → Nat → Int32) (R : Nat → Nat → Option Nat) (c : Nat) (n : Nat) (x1 : Nat) (x2 : Nat) (x3 : Nat) (x4 : Int32), K23 sh V R c n x1 x2 x3 x4 → J G l ML_law d c n 23 [(0, .ref 69), (1, .ref x1), (2, .ref x2), (3, .ref x3), (4, .int x4)] [] (mk sh V R) (jSr Q) jNo) {sh : List jH} {V : Nat → Nat → Int32} {R : Nat → Nat → Option Nat} {c : Nat} {n : Nat} {x1 : Nat} {x2 : Nat} {x3 : Nat} {x4 : Int32} {s0 : Nat} {s1 : Int32} (hw : wL_law_1564 G Q K23 sh V R c n x1 x2 x3 x4 s0 s1) : J G l ML_law d c n 1564 [(0, .ref 69), (1, .ref x1), (2, .ref x2), (3, .ref x3), (4, .int x4)] [.int s1, .ref s0] (mk sh V R) (jSr Q) jNo := by
  unfold wL_law_1564 at hw
  obtain ⟨hq1564_s0, hw⟩ := hw
  refine uL_216 rfl htr hq1564_s0 dL_law_1564 (by omega) (Nat.le_of_ble_eq_true rfl) hw ?_
  clear hw
  intro r1564 V1564 hw
  refine J.aload_n 2 dL_law_1567 rfl ?_
  refine J.aload_n 0 dL_law_1568 rfl ?_
  refine J.iload 4 dL_law_1569 rfl ?_
  refine J.iconst (v := (1 : Int32)) dL_law_1571 (by decide) ?_
  refine J.iadd dL_law_1572 ?_
  obtain ⟨h1573, hw⟩ := hw
  refine J.sld dL_law_1573 h1573 ?_
  refine J.if_eq 1581 dL_law_1574 (by decide) ⟨fun c1574 => ?_, fun c1574 => ?_⟩
  · obtain ⟨hw, -⟩ := hw
    specialize hw c1574
    refine J.iconst (v := (0 : Int32)) dL_law_1581 (by decide) ?_
    exact (rL_law_1582 htr hdd hK23 hw)
  · obtain ⟨-, hw⟩ := hw
    specialize hw c1574
    refine J.iconst (v := (1 : Int32)) dL_law_1577 (by decide) ?_
    refine J.goto 1582 dL_law_1578 (by decide) ?_
    exact (rL_law_1582 htr hdd hK23 hw)
def wL_law_1549 (G : jG) (Q : Int32 → List jH → (Nat → Nat → Int32) → (Nat → Nat → Option Nat) → Prop) (K23 : List jH → (Nat → Nat → Int32) → (Nat → Nat → Option Nat) → Nat → Nat → Nat → Nat → Nat → Int32 → Prop) (sh : List jH) (V : Nat → Nat → Int32) (R : Nat → Nat → Option Nat) (c : Nat) (n : Nat) (x1 : Nat) (x2 : Nat) (x3 : Nat) (x4 : Int32) : Prop :=
  (vp_in (x4 + (1 : Int32)) (jScN G) ∧ (((jScF G (x4 + (1 : Int32)).toNatClampNeg) = 0 → wL_law_1564 G Q K23 sh V R c n x1 x2 x3 x4 x1 (0 : Int32)) ∧ (¬ (jScF G (x4 + (1 : Int32)).toNatClampNeg) = 0 → wL_law_1564 G Q K23 sh V R c n x1 x2 x3 x4 x1 (1 : Int32))))
theorem rL_law_1549 {G : jG} {l : Launch} {d : Nat} (htr : l.stackTraces = false) (hdd : 107 ≤ d) {Q : Int32 → List jH → (Nat → Nat → Int32) → (Nat → Nat → Option Nat) → Prop} {K23 : List jH → (Nat → Nat → Int32) → (Nat → Nat → Option Nat) → Nat → Nat → Nat → Nat → Nat → Int32 → Prop} (hK23 : ∀ (sh : List jH) (V : Nat → Nat → Int32) (R : Nat → Nat → Option Nat) (c : Nat) (n : Nat) (x1 : Nat) (x2 : Nat) (x3 : Nat) (x4 : Int32), K23 sh V R c n x1 x2 x3 x4 → J G l ML_law d c n 23 [(0, .ref 69), (1, .ref x1), (2, .ref x2), (3, .ref x3), (4, .int x4)] [] (mk sh V R) (jSr Q) jNo) {sh : List jH} {V : Nat → Nat → Int32} {R : Nat → Nat → Option Nat} {c : Nat} {n : Nat} {x1 : Nat} {x2 : Nat} {x3 : Nat} {x4 : Int32} (hw : wL_law_1549 G Q K23 sh V R c n x1 x2 x3 x4) : J G l ML_law d c n 1549 [(0, .ref 69), (1, .ref x1), (2, .ref x2), (3, .ref x3), (4, .int x4)] [] (mk sh V R) (jSr Q) jNo := by
  unfold wL_law_1549 at hw
  refine J.aload_n 1 dL_law_1549 rfl ?_
  refine J.aload_n 0 dL_law_1550 rfl ?_
  refine J.iload 4 dL_law_1551 rfl ?_
  refine J.iconst (v := (1 : Int32)) dL_law_1553 (by decide) ?_
  refine J.iadd dL_law_1554 ?_
  obtain ⟨h1555, hw⟩ := hw
  refine J.sld dL_law_1555 h1555 ?_
  refine J.if_eq 1563 dL_law_1556 (by decide) ⟨fun c1556 => ?_, fun c1556 => ?_⟩
  · obtain ⟨hw, -⟩ := hw
    specialize hw c1556
    refine J.iconst (v := (0 : Int32)) dL_law_1563 (by decide) ?_
    exact (rL_law_1564 htr hdd hK23 hw)
  · obtain ⟨-, hw⟩ := hw
    specialize hw c1556
    refine J.iconst (v := (1 : Int32)) dL_law_1559 (by decide) ?_
    refine J.goto 1564 dL_law_1560 (by decide) ?_
    exact (rL_law_1564 htr hdd hK23 hw)
def wL_law_1590 (G : jG) (Q : Int32 → List jH → (Nat → Nat → Int32) → (Nat → Nat → Option Nat) → Prop) (K23 : List jH → (Nat → Nat → Int32) → (Nat → Nat → Option Nat) → Nat → Nat → Nat → Nat → Nat → Int32 → Prop) (sh : List jH) (V : Nat → Nat → Int32) (R : Nat → Nat → Option Nat) (c : Nat) (n : Nat) (x1 : Nat) (x2 : Nat) (x3 : Nat) (x4 : Int32) : Prop :=
  (jReg shX1 sh x1 ∧ (wX1_twice x1 V (fun r1591 => (jReg shX6 sh x2 ∧ (wX6_twice x2 V (fun r1595 V1595 => ((r1591 = r1595 → (∀ y3184 : Int32, y3184 = x4 + (6 : Int32) → K23 sh V1595 R c n x1 x2 x3 y3184)) ∧ (¬ r1591 = r1595 → Q (0 : Int32) sh V1595 R))))))))
theorem rL_law_1590 {G : jG} {l : Launch} {d : Nat} (htr : l.stackTraces = false) (hdd : 107 ≤ d) {Q : Int32 → List jH → (Nat → Nat → Int32) → (Nat → Nat → Option Nat) → Prop} {K23 : List jH → (Nat → Nat → Int32) → (Nat → Nat → Option Nat) → Nat → Nat → Nat → Nat → Nat → Int32 → Prop} (hK23 : ∀ (sh : List jH) (V : Nat → Nat → Int32) (R : Nat → Nat → Option Nat) (c : Nat) (n : Nat) (x1 : Nat) (x2 : Nat) (x3 : Nat) (x4 : Int32), K23 sh V R c n x1 x2 x3 x4 → J G l ML_law d c n 23 [(0, .ref 69), (1, .ref x1), (2, .ref x2), (3, .ref x3), (4, .int x4)] [] (mk sh V R) (jSr Q) jNo) {sh : List jH} {V : Nat → Nat → Int32} {R : Nat → Nat → Option Nat} {c : Nat} {n : Nat} {x1 : Nat} {x2 : Nat} {x3 : Nat} {x4 : Int32} (hw : wL_law_1590 G Q K23 sh V R c n x1 x2 x3 x4) : J G l ML_law d c n 1590 [(0, .ref 69), (1, .ref x1), (2, .ref x2), (3, .ref x3), (4, .int x4)] [] (mk sh V R) (jSr Q) jNo := by
  unfold wL_law_1590 at hw
  refine J.aload_n 1 dL_law_1590 rfl ?_
  obtain ⟨hq1591_x1, hw⟩ := hw
  refine uL_220 rfl htr hq1591_x1 dL_law_1591 (by omega) (Nat.le_of_ble_eq_true rfl) hw ?_
  clear hw
  intro r1591 hw
  refine J.aload_n 2 dL_law_1594 rfl ?_
  obtain ⟨hq1595_x2, hw⟩ := hw
  refine uL_223 rfl htr hq1595_x2 dL_law_1595 (by omega) (Nat.le_of_ble_eq_true rfl) hw ?_
  clear hw
  intro r1595 V1595 hw
  refine J.icmp_eq 3184 dL_law_1598 (by decide) ⟨fun c1598 => ?_, fun c1598 => ?_⟩
  · obtain ⟨hw, -⟩ := hw
    specialize hw c1598
    refine J.iincN 4 (K := (6 : Int32)) (lv' := fun y3184 => [(4, .int y3184), (0, .ref 69), (1, .ref x1), (2, .ref x2), (3, .ref x3)]) dL_law_3184 rfl (by decide) (by decide) (fun _ => rfl) hw ?_
    clear hw
    intro y3184 hw
    refine J.goto 23 dL_law_3187 (by decide) ?_
    exact J.pick [1, 2, 3, 4, 0] rfl (hK23 _ _ _ _ _ _ _ _ _ hw)
  · obtain ⟨-, hw⟩ := hw
    specialize hw c1598
    refine J.iconst (v := (0 : Int32)) dL_law_1601 (by decide) ?_
    exact J.zret rfl rfl dL_law_1602 ⟨_, _, _, rfl, _, rfl, hw⟩
def wL_law_1603 (G : jG) (Q : Int32 → List jH → (Nat → Nat → Int32) → (Nat → Nat → Option Nat) → Prop) (K23 : List jH → (Nat → Nat → Int32) → (Nat → Nat → Option Nat) → Nat → Nat → Nat → Nat → Nat → Int32 → Prop) (sh : List jH) (V : Nat → Nat → Int32) (R : Nat → Nat → Option Nat) (c : Nat) (n : Nat) (x1 : Nat) (x2 : Nat) (x3 : Nat) (x4 : Int32) : Prop :=
  (jReg shX1 sh x1 ∧ (wX1_taboo x1 sh R V (fun r1604 V1604 => (jReg shX6 sh x2 ∧ (wX6_taboo x2 sh R V1604 (fun r1608 V1608 => ((r1604 = r1608 → (∀ y3184 : Int32, y3184 = x4 + (6 : Int32) → K23 sh V1608 R c n x1 x2 x3 y3184)) ∧ (¬ r1604 = r1608 → Q (0 : Int32) sh V1608 R))))))))
theorem rL_law_1603 {G : jG} {l : Launch} {d : Nat} (htr : l.stackTraces = false) (hdd : 107 ≤ d) {Q : Int32 → List jH → (Nat → Nat → Int32) → (Nat → Nat → Option Nat) → Prop} {K23 : List jH → (Nat → Nat → Int32) → (Nat → Nat → Option Nat) → Nat → Nat → Nat → Nat → Nat → Int32 → Prop} (hK23 : ∀ (sh : List jH) (V : Nat → Nat → Int32) (R : Nat → Nat → Option Nat) (c : Nat) (n : Nat) (x1 : Nat) (x2 : Nat) (x3 : Nat) (x4 : Int32), K23 sh V R c n x1 x2 x3 x4 → J G l ML_law d c n 23 [(0, .ref 69), (1, .ref x1), (2, .ref x2), (3, .ref x3), (4, .int x4)] [] (mk sh V R) (jSr Q) jNo) {sh : List jH} {V : Nat → Nat → Int32} {R : Nat → Nat → Option Nat} {c : Nat} {n : Nat} {x1 : Nat} {x2 : Nat} {x3 : Nat} {x4 : Int32} (hw : wL_law_1603 G Q K23 sh V R c n x1 x2 x3 x4) : J G l ML_law d c n 1603 [(0, .ref 69), (1, .ref x1), (2, .ref x2), (3, .ref x3), (4, .int x4)] [] (mk sh V R) (jSr Q) jNo := by
  unfold wL_law_1603 at hw
  refine J.aload_n 1 dL_law_1603 rfl ?_
  obtain ⟨hq1604_x1, hw⟩ := hw
  refine uL_224 rfl htr hq1604_x1 dL_law_1604 (by omega) (Nat.le_of_ble_eq_true rfl) hw ?_
  clear hw
  intro r1604 V1604 hw
  refine J.aload_n 2 dL_law_1607 rfl ?_
  obtain ⟨hq1608_x2, hw⟩ := hw
  refine uL_227 rfl htr hq1608_x2 dL_law_1608 (by omega) (Nat.le_of_ble_eq_true rfl) hw ?_
  clear hw
  intro r1608 V1608 hw
  refine J.icmp_eq 3184 dL_law_1611 (by decide) ⟨fun c1611 => ?_, fun c1611 => ?_⟩
  · obtain ⟨hw, -⟩ := hw
    specialize hw c1611
    refine J.iincN 4 (K := (6 : Int32)) (lv' := fun y3184 => [(4, .int y3184), (0, .ref 69), (1, .ref x1), (2, .ref x2), (3, .ref x3)]) dL_law_3184 rfl (by decide) (by decide) (fun _ => rfl) hw ?_
    clear hw
    intro y3184 hw
    refine J.goto 23 dL_law_3187 (by decide) ?_
    exact J.pick [1, 2, 3, 4, 0] rfl (hK23 _ _ _ _ _ _ _ _ _ hw)
  · obtain ⟨-, hw⟩ := hw
    specialize hw c1611
    refine J.iconst (v := (0 : Int32)) dL_law_1614 (by decide) ?_
    exact J.zret rfl rfl dL_law_1615 ⟨_, _, _, rfl, _, rfl, hw⟩
def wL_law_1616 (G : jG) (Q : Int32 → List jH → (Nat → Nat → Int32) → (Nat → Nat → Option Nat) → Prop) (K23 : List jH → (Nat → Nat → Int32) → (Nat → Nat → Option Nat) → Nat → Nat → Nat → Nat → Nat → Int32 → Prop) (sh : List jH) (V : Nat → Nat → Int32) (R : Nat → Nat → Option Nat) (c : Nat) (n : Nat) (x1 : Nat) (x2 : Nat) (x3 : Nat) (x4 : Int32) : Prop :=
  (vp_in (x4 + (1 : Int32)) (jScN G) ∧ (jReg shX1 sh x1 ∧ (∃ c11624 n11624 c21624 n21624 : Nat, c11624 + c21624 ≤ c ∧ n11624 + n21624 ≤ n ∧ (wX0_hostBest x1 sh V R c11624 n11624 (jScF G (x4 + (1 : Int32)).toNatClampNeg) x3 (fun r1624 sh1624 V1624 R1624 => (vp_in (x4 + (1 : Int32)) (jScN G) ∧ (jReg shX6 sh1624 x2 ∧ (wX6_hostBest x2 V1624 (jScF G (x4 + (1 : Int32)).toNatClampNeg) (fun r1636 V1636 => (jReg shX6 sh1624 x2 ∧ (wX6_thrown x2 V1636 (fun r1642 => ((r1642 = r1624 → ((¬ r1624 = 0 → (∀ y3184 : Int32, y3184 = x4 + (6 : Int32) → K23 sh1624 V1636 R1624 c21624 n21624 x1 x2 x3 y3184)) ∧ (r1624 = 0 → (∃ f1659 : Nat → Int64, sh1624[x3]? = some (jF (.inl (3, 1, .inr (.inl f1659)))) ∧ jn ≤ x3 ∧ (((lg_cmp (f1659 0) r1636.toInt64) = 0 → (∀ y3184 : Int32, y3184 = x4 + (6 : Int32) → K23 sh1624 V1636 R1624 c21624 n21624 x1 x2 x3 y3184)) ∧ (¬ (lg_cmp (f1659 0) r1636.toInt64) = 0 → Q (0 : Int32) sh1624 V1636 R1624)))))) ∧ (¬ r1642 = r1624 → Q (0 : Int32) sh1624 V1636 R1624))))))))))))))
theorem rL_law_1616 {G : jG} {l : Launch} {d : Nat} (htr : l.stackTraces = false) (hdd : 107 ≤ d) {Q : Int32 → List jH → (Nat → Nat → Int32) → (Nat → Nat → Option Nat) → Prop} {K23 : List jH → (Nat → Nat → Int32) → (Nat → Nat → Option Nat) → Nat → Nat → Nat → Nat → Nat → Int32 → Prop} (hK23 : ∀ (sh : List jH) (V : Nat → Nat → Int32) (R : Nat → Nat → Option Nat) (c : Nat) (n : Nat) (x1 : Nat) (x2 : Nat) (x3 : Nat) (x4 : Int32), K23 sh V R c n x1 x2 x3 x4 → J G l ML_law d c n 23 [(0, .ref 69), (1, .ref x1), (2, .ref x2), (3, .ref x3), (4, .int x4)] [] (mk sh V R) (jSr Q) jNo) {sh : List jH} {V : Nat → Nat → Int32} {R : Nat → Nat → Option Nat} {c : Nat} {n : Nat} {x1 : Nat} {x2 : Nat} {x3 : Nat} {x4 : Int32} (hw : wL_law_1616 G Q K23 sh V R c n x1 x2 x3 x4) : J G l ML_law d c n 1616 [(0, .ref 69), (1, .ref x1), (2, .ref x2), (3, .ref x3), (4, .int x4)] [] (mk sh V R) (jSr Q) jNo := by
  unfold wL_law_1616 at hw
  refine J.aload_n 1 dL_law_1616 rfl ?_
  refine J.aload_n 0 dL_law_1617 rfl ?_
  refine J.iload 4 dL_law_1618 rfl ?_
  refine J.iconst (v := (1 : Int32)) dL_law_1620 (by decide) ?_
  refine J.iadd dL_law_1621 ?_
  obtain ⟨h1622, hw⟩ := hw
  refine J.sld dL_law_1622 h1622 ?_
  refine J.aload_n 3 dL_law_1623 rfl ?_
  obtain ⟨hq1624_x1, hw⟩ := hw
  obtain ⟨c11624, n11624, c21624, n21624, hc1624, hd1624, hw⟩ := hw
  refine uL_228 rfl htr hq1624_x1 dL_law_1624 (by omega) (Nat.le_of_ble_eq_true rfl) hw ⟨hc1624, hd1624⟩ ?_
  clear hw
  intro r1624 sh1624 V1624 R1624 hw
  refine J.istore (lv' := [(5, .int r1624), (0, .ref 69), (1, .ref x1), (2, .ref x2), (3, .ref x3), (4, .int x4)]) dL_law_1627 (by decide) rfl ?_
  refine J.aload_n 3 dL_law_1629 rfl ?_
  refine J.aload_n 1 dL_law_1630 rfl ?_
  refine J.iload 5 dL_law_1631 rfl ?_
  refine J.iconst (v := (1 : Int32)) dL_law_1633 (by decide) ?_
  refine J.iadd dL_law_1634 ?_
  obtain ⟨h1635, hw⟩ := hw
  refine J.sld dL_law_1635 h1635 ?_
  obtain ⟨hq1636_x2, hw⟩ := hw
  refine uL_230 rfl htr hq1636_x2 dL_law_1636 (by omega) (Nat.le_of_ble_eq_true rfl) hw ?_
  clear hw
  intro r1636 V1636 hw
  refine J.istore (lv' := [(6, .int r1636), (5, .int r1624), (0, .ref 69), (1, .ref x1), (2, .ref x2), (3, .ref x3), (4, .int x4)]) dL_law_1639 (by decide) rfl ?_
  refine J.aload_n 4 dL_law_1641 rfl ?_
  obtain ⟨hq1642_x2, hw⟩ := hw
  refine uL_159 rfl htr hq1642_x2 dL_law_1642 (by omega) (Nat.le_of_ble_eq_true rfl) hw ?_
  clear hw
  intro r1642 hw
  refine J.iload 1 dL_law_1645 rfl ?_
  refine J.icmp_eq 1652 dL_law_1647 (by decide) ⟨fun c1647 => ?_, fun c1647 => ?_⟩
  · obtain ⟨hw, -⟩ := hw
    specialize hw c1647
    refine J.iload 1 dL_law_1652 rfl ?_
    refine J.if_ne 1669 dL_law_1654 (by decide) ⟨fun c1654 => ?_, fun c1654 => ?_⟩
    · obtain ⟨hw, -⟩ := hw
      specialize hw c1654
      refine J.goto 3184 dL_law_1669 (by decide) ?_
      refine J.iincN 6 (K := (6 : Int32)) (lv' := fun y3184 => [(4, .int y3184), (6, .int r1636), (5, .int r1624), (0, .ref 69), (1, .ref x1), (2, .ref x2), (3, .ref x3)]) dL_law_3184 rfl (by decide) (by decide) (fun _ => rfl) hw ?_
      clear hw
      intro y3184 hw
      refine J.goto 23 dL_law_3187 (by decide) ?_
      exact J.pick [3, 4, 5, 6, 0] rfl (hK23 _ _ _ _ _ _ _ _ _ hw)
    · obtain ⟨-, hw⟩ := hw
      specialize hw c1654
      refine J.aload_n 5 dL_law_1657 rfl ?_
      refine J.iconst (v := (0 : Int32)) dL_law_1658 (by decide) ?_
      obtain ⟨f1659, hk1659, hn1659, hw⟩ := hw
      refine JV.lald0 dL_law_1659 hn1659 hk1659 ?_
      refine J.iload 0 dL_law_1660 rfl ?_
      refine J.i2l dL_law_1662 ?_
      refine J.lcmp dL_law_1663 ?_
      refine J.if_eq 1669 dL_law_1664 (by decide) ⟨fun c1664 => ?_, fun c1664 => ?_⟩
      · obtain ⟨hw, -⟩ := hw
        specialize hw c1664
        refine J.goto 3184 dL_law_1669 (by decide) ?_
        refine J.iincN 6 (K := (6 : Int32)) (lv' := fun y3184 => [(4, .int y3184), (6, .int r1636), (5, .int r1624), (0, .ref 69), (1, .ref x1), (2, .ref x2), (3, .ref x3)]) dL_law_3184 rfl (by decide) (by decide) (fun _ => rfl) hw ?_
        clear hw
        intro y3184 hw
        refine J.goto 23 dL_law_3187 (by decide) ?_
        exact J.pick [3, 4, 5, 6, 0] rfl (hK23 _ _ _ _ _ _ _ _ _ hw)
      · obtain ⟨-, hw⟩ := hw
        specialize hw c1664
        refine J.iconst (v := (0 : Int32)) dL_law_1667 (by decide) ?_
        exact J.zret rfl rfl dL_law_1668 ⟨_, _, _, rfl, _, rfl, hw⟩
  · obtain ⟨-, hw⟩ := hw
    specialize hw c1647
    refine J.iconst (v := (0 : Int32)) dL_law_1650 (by decide) ?_
    exact J.zret rfl rfl dL_law_1651 ⟨_, _, _, rfl, _, rfl, hw⟩
def wL_law_1672 (G : jG) (Q : Int32 → List jH → (Nat → Nat → Int32) → (Nat → Nat → Option Nat) → Prop) (K23 : List jH → (Nat → Nat → Int32) → (Nat → Nat → Option Nat) → Nat → Nat → Nat → Nat → Nat → Int32 → Prop) (sh : List jH) (V : Nat → Nat → Int32) (R : Nat → Nat → Option Nat) (c : Nat) (n : Nat) (x1 : Nat) (x2 : Nat) (x3 : Nat) (x4 : Int32) : Prop :=
  (vp_in (x4 + (1 : Int32)) (jScN G) ∧ (jReg shX1 sh x1 ∧ (∃ c11680 n11680 c21680 n21680 : Nat, c11680 + c21680 ≤ c ∧ n11680 + n21680 ≤ n ∧ (wX0_guestBest x1 sh V R c11680 n11680 (jScF G (x4 + (1 : Int32)).toNatClampNeg) x3 (fun r1680 sh1680 V1680 R1680 => (vp_in (x4 + (1 : Int32)) (jScN G) ∧ (jReg shX6 sh1680 x2 ∧ (wX6_guestBest x2 V1680 (jScF G (x4 + (1 : Int32)).toNatClampNeg) (fun r1692 V1692 => (jReg shX6 sh1680 x2 ∧ (wX6_thrown x2 V1692 (fun r1698 => ((r1698 = r1680 → ((¬ r1680 = 0 → (∀ y3184 : Int32, y3184 = x4 + (6 : Int32) → K23 sh1680 V1692 R1680 c21680 n21680 x1 x2 x3 y3184)) ∧ (r1680 = 0 → (∃ f1715 : Nat → Int64, sh1680[x3]? = some (jF (.inl (3, 1, .inr (.inl f1715)))) ∧ jn ≤ x3 ∧ (((lg_cmp (f1715 0) r1692.toInt64) = 0 → (∀ y3184 : Int32, y3184 = x4 + (6 : Int32) → K23 sh1680 V1692 R1680 c21680 n21680 x1 x2 x3 y3184)) ∧ (¬ (lg_cmp (f1715 0) r1692.toInt64) = 0 → Q (0 : Int32) sh1680 V1692 R1680)))))) ∧ (¬ r1698 = r1680 → Q (0 : Int32) sh1680 V1692 R1680))))))))))))))
theorem rL_law_1672 {G : jG} {l : Launch} {d : Nat} (htr : l.stackTraces = false) (hdd : 107 ≤ d) {Q : Int32 → List jH → (Nat → Nat → Int32) → (Nat → Nat → Option Nat) → Prop} {K23 : List jH → (Nat → Nat → Int32) → (Nat → Nat → Option Nat) → Nat → Nat → Nat → Nat → Nat → Int32 → Prop} (hK23 : ∀ (sh : List jH) (V : Nat → Nat → Int32) (R : Nat → Nat → Option Nat) (c : Nat) (n : Nat) (x1 : Nat) (x2 : Nat) (x3 : Nat) (x4 : Int32), K23 sh V R c n x1 x2 x3 x4 → J G l ML_law d c n 23 [(0, .ref 69), (1, .ref x1), (2, .ref x2), (3, .ref x3), (4, .int x4)] [] (mk sh V R) (jSr Q) jNo) {sh : List jH} {V : Nat → Nat → Int32} {R : Nat → Nat → Option Nat} {c : Nat} {n : Nat} {x1 : Nat} {x2 : Nat} {x3 : Nat} {x4 : Int32} (hw : wL_law_1672 G Q K23 sh V R c n x1 x2 x3 x4) : J G l ML_law d c n 1672 [(0, .ref 69), (1, .ref x1), (2, .ref x2), (3, .ref x3), (4, .int x4)] [] (mk sh V R) (jSr Q) jNo := by
  unfold wL_law_1672 at hw
  refine J.aload_n 1 dL_law_1672 rfl ?_
  refine J.aload_n 0 dL_law_1673 rfl ?_
  refine J.iload 4 dL_law_1674 rfl ?_
  refine J.iconst (v := (1 : Int32)) dL_law_1676 (by decide) ?_
  refine J.iadd dL_law_1677 ?_
  obtain ⟨h1678, hw⟩ := hw
  refine J.sld dL_law_1678 h1678 ?_
  refine J.aload_n 3 dL_law_1679 rfl ?_
  obtain ⟨hq1680_x1, hw⟩ := hw
  obtain ⟨c11680, n11680, c21680, n21680, hc1680, hd1680, hw⟩ := hw
  refine uL_231 rfl htr hq1680_x1 dL_law_1680 (by omega) (Nat.le_of_ble_eq_true rfl) hw ⟨hc1680, hd1680⟩ ?_
  clear hw
  intro r1680 sh1680 V1680 R1680 hw
  refine J.istore (lv' := [(5, .int r1680), (0, .ref 69), (1, .ref x1), (2, .ref x2), (3, .ref x3), (4, .int x4)]) dL_law_1683 (by decide) rfl ?_
  refine J.aload_n 3 dL_law_1685 rfl ?_
  refine J.aload_n 1 dL_law_1686 rfl ?_
  refine J.iload 5 dL_law_1687 rfl ?_
  refine J.iconst (v := (1 : Int32)) dL_law_1689 (by decide) ?_
  refine J.iadd dL_law_1690 ?_
  obtain ⟨h1691, hw⟩ := hw
  refine J.sld dL_law_1691 h1691 ?_
  obtain ⟨hq1692_x2, hw⟩ := hw
  refine uL_233 rfl htr hq1692_x2 dL_law_1692 (by omega) (Nat.le_of_ble_eq_true rfl) hw ?_
  clear hw
  intro r1692 V1692 hw
  refine J.istore (lv' := [(6, .int r1692), (5, .int r1680), (0, .ref 69), (1, .ref x1), (2, .ref x2), (3, .ref x3), (4, .int x4)]) dL_law_1695 (by decide) rfl ?_
  refine J.aload_n 4 dL_law_1697 rfl ?_
  obtain ⟨hq1698_x2, hw⟩ := hw
  refine uL_159 rfl htr hq1698_x2 dL_law_1698 (by omega) (Nat.le_of_ble_eq_true rfl) hw ?_
  clear hw
  intro r1698 hw
  refine J.iload 1 dL_law_1701 rfl ?_
  refine J.icmp_eq 1708 dL_law_1703 (by decide) ⟨fun c1703 => ?_, fun c1703 => ?_⟩
  · obtain ⟨hw, -⟩ := hw
    specialize hw c1703
    refine J.iload 1 dL_law_1708 rfl ?_
    refine J.if_ne 1725 dL_law_1710 (by decide) ⟨fun c1710 => ?_, fun c1710 => ?_⟩
    · obtain ⟨hw, -⟩ := hw
      specialize hw c1710
      refine J.goto 3184 dL_law_1725 (by decide) ?_
      refine J.iincN 6 (K := (6 : Int32)) (lv' := fun y3184 => [(4, .int y3184), (6, .int r1692), (5, .int r1680), (0, .ref 69), (1, .ref x1), (2, .ref x2), (3, .ref x3)]) dL_law_3184 rfl (by decide) (by decide) (fun _ => rfl) hw ?_
      clear hw
      intro y3184 hw
      refine J.goto 23 dL_law_3187 (by decide) ?_
      exact J.pick [3, 4, 5, 6, 0] rfl (hK23 _ _ _ _ _ _ _ _ _ hw)
    · obtain ⟨-, hw⟩ := hw
      specialize hw c1710
      refine J.aload_n 5 dL_law_1713 rfl ?_
      refine J.iconst (v := (0 : Int32)) dL_law_1714 (by decide) ?_
      obtain ⟨f1715, hk1715, hn1715, hw⟩ := hw
      refine JV.lald0 dL_law_1715 hn1715 hk1715 ?_
      refine J.iload 0 dL_law_1716 rfl ?_
      refine J.i2l dL_law_1718 ?_
      refine J.lcmp dL_law_1719 ?_
      refine J.if_eq 1725 dL_law_1720 (by decide) ⟨fun c1720 => ?_, fun c1720 => ?_⟩
      · obtain ⟨hw, -⟩ := hw
        specialize hw c1720
        refine J.goto 3184 dL_law_1725 (by decide) ?_
        refine J.iincN 6 (K := (6 : Int32)) (lv' := fun y3184 => [(4, .int y3184), (6, .int r1692), (5, .int r1680), (0, .ref 69), (1, .ref x1), (2, .ref x2), (3, .ref x3)]) dL_law_3184 rfl (by decide) (by decide) (fun _ => rfl) hw ?_
        clear hw
        intro y3184 hw
        refine J.goto 23 dL_law_3187 (by decide) ?_
        exact J.pick [3, 4, 5, 6, 0] rfl (hK23 _ _ _ _ _ _ _ _ _ hw)
      · obtain ⟨-, hw⟩ := hw
        specialize hw c1720
        refine J.iconst (v := (0 : Int32)) dL_law_1723 (by decide) ?_
        exact J.zret rfl rfl dL_law_1724 ⟨_, _, _, rfl, _, rfl, hw⟩
  · obtain ⟨-, hw⟩ := hw
    specialize hw c1703
    refine J.iconst (v := (0 : Int32)) dL_law_1706 (by decide) ?_
    exact J.zret rfl rfl dL_law_1707 ⟨_, _, _, rfl, _, rfl, hw⟩
def wL_law_1728 (G : jG) (Q : Int32 → List jH → (Nat → Nat → Int32) → (Nat → Nat → Option Nat) → Prop) (K23 : List jH → (Nat → Nat → Int32) → (Nat → Nat → Option Nat) → Nat → Nat → Nat → Nat → Nat → Int32 → Prop) (sh : List jH) (V : Nat → Nat → Int32) (R : Nat → Nat → Option Nat) (c : Nat) (n : Nat) (x1 : Nat) (x2 : Nat) (x3 : Nat) (x4 : Int32) : Prop :=
  (jReg shX1 sh x1 ∧ (wX1_ways x1 V (fun r1729 V1729 => (jReg shX6 sh x2 ∧ (wX6_ways x2 V1729 (fun r1733 V1733 => ((r1729 = r1733 → (∀ y3184 : Int32, y3184 = x4 + (6 : Int32) → K23 sh V1733 R c n x1 x2 x3 y3184)) ∧ (¬ r1729 = r1733 → Q (0 : Int32) sh V1733 R))))))))
theorem rL_law_1728 {G : jG} {l : Launch} {d : Nat} (htr : l.stackTraces = false) (hdd : 107 ≤ d) {Q : Int32 → List jH → (Nat → Nat → Int32) → (Nat → Nat → Option Nat) → Prop} {K23 : List jH → (Nat → Nat → Int32) → (Nat → Nat → Option Nat) → Nat → Nat → Nat → Nat → Nat → Int32 → Prop} (hK23 : ∀ (sh : List jH) (V : Nat → Nat → Int32) (R : Nat → Nat → Option Nat) (c : Nat) (n : Nat) (x1 : Nat) (x2 : Nat) (x3 : Nat) (x4 : Int32), K23 sh V R c n x1 x2 x3 x4 → J G l ML_law d c n 23 [(0, .ref 69), (1, .ref x1), (2, .ref x2), (3, .ref x3), (4, .int x4)] [] (mk sh V R) (jSr Q) jNo) {sh : List jH} {V : Nat → Nat → Int32} {R : Nat → Nat → Option Nat} {c : Nat} {n : Nat} {x1 : Nat} {x2 : Nat} {x3 : Nat} {x4 : Int32} (hw : wL_law_1728 G Q K23 sh V R c n x1 x2 x3 x4) : J G l ML_law d c n 1728 [(0, .ref 69), (1, .ref x1), (2, .ref x2), (3, .ref x3), (4, .int x4)] [] (mk sh V R) (jSr Q) jNo := by
  unfold wL_law_1728 at hw
  refine J.aload_n 1 dL_law_1728 rfl ?_
  obtain ⟨hq1729_x1, hw⟩ := hw
  refine uL_234 rfl htr hq1729_x1 dL_law_1729 (by omega) (Nat.le_of_ble_eq_true rfl) hw ?_
  clear hw
  intro r1729 V1729 hw
  refine J.aload_n 2 dL_law_1732 rfl ?_
  obtain ⟨hq1733_x2, hw⟩ := hw
  refine uL_237 rfl htr hq1733_x2 dL_law_1733 (by omega) (Nat.le_of_ble_eq_true rfl) hw ?_
  clear hw
  intro r1733 V1733 hw
  refine J.icmp_eq 3184 dL_law_1736 (by decide) ⟨fun c1736 => ?_, fun c1736 => ?_⟩
  · obtain ⟨hw, -⟩ := hw
    specialize hw c1736
    refine J.iincN 4 (K := (6 : Int32)) (lv' := fun y3184 => [(4, .int y3184), (0, .ref 69), (1, .ref x1), (2, .ref x2), (3, .ref x3)]) dL_law_3184 rfl (by decide) (by decide) (fun _ => rfl) hw ?_
    clear hw
    intro y3184 hw
    refine J.goto 23 dL_law_3187 (by decide) ?_
    exact J.pick [1, 2, 3, 4, 0] rfl (hK23 _ _ _ _ _ _ _ _ _ hw)
  · obtain ⟨-, hw⟩ := hw
    specialize hw c1736
    refine J.iconst (v := (0 : Int32)) dL_law_1739 (by decide) ?_
    exact J.zret rfl rfl dL_law_1740 ⟨_, _, _, rfl, _, rfl, hw⟩
def wL_law_1741 (G : jG) (Q : Int32 → List jH → (Nat → Nat → Int32) → (Nat → Nat → Option Nat) → Prop) (K23 : List jH → (Nat → Nat → Int32) → (Nat → Nat → Option Nat) → Nat → Nat → Nat → Nat → Nat → Int32 → Prop) (sh : List jH) (V : Nat → Nat → Int32) (R : Nat → Nat → Option Nat) (c : Nat) (n : Nat) (x1 : Nat) (x2 : Nat) (x3 : Nat) (x4 : Int32) : Prop :=
  (jReg shX1 sh x1 ∧ (∃ c11743 n11743 c21743 n21743 : Nat, c11743 + c21743 ≤ c ∧ n11743 + n21743 ≤ n ∧ (wX0_rather x1 sh V R c11743 n11743 x3 (fun r1743 sh1743 V1743 R1743 => (jReg shX6 sh1743 x2 ∧ (wX6_rather x2 V1743 (fun r1749 V1749 => (jReg shX6 sh1743 x2 ∧ (wX6_thrown x2 V1749 (fun r1755 => ((r1755 = r1743 → ((¬ r1743 = 0 → (∀ y3184 : Int32, y3184 = x4 + (6 : Int32) → K23 sh1743 V1749 R1743 c21743 n21743 x1 x2 x3 y3184)) ∧ (r1743 = 0 → (∃ f1772 : Nat → Int64, sh1743[x3]? = some (jF (.inl (3, 1, .inr (.inl f1772)))) ∧ jn ≤ x3 ∧ (((lg_cmp (f1772 0) r1749.toInt64) = 0 → (∀ y3184 : Int32, y3184 = x4 + (6 : Int32) → K23 sh1743 V1749 R1743 c21743 n21743 x1 x2 x3 y3184)) ∧ (¬ (lg_cmp (f1772 0) r1749.toInt64) = 0 → Q (0 : Int32) sh1743 V1749 R1743)))))) ∧ (¬ r1755 = r1743 → Q (0 : Int32) sh1743 V1749 R1743))))))))))))
theorem rL_law_1741 {G : jG} {l : Launch} {d : Nat} (htr : l.stackTraces = false) (hdd : 107 ≤ d) {Q : Int32 → List jH → (Nat → Nat → Int32) → (Nat → Nat → Option Nat) → Prop} {K23 : List jH → (Nat → Nat → Int32) → (Nat → Nat → Option Nat) → Nat → Nat → Nat → Nat → Nat → Int32 → Prop} (hK23 : ∀ (sh : List jH) (V : Nat → Nat → Int32) (R : Nat → Nat → Option Nat) (c : Nat) (n : Nat) (x1 : Nat) (x2 : Nat) (x3 : Nat) (x4 : Int32), K23 sh V R c n x1 x2 x3 x4 → J G l ML_law d c n 23 [(0, .ref 69), (1, .ref x1), (2, .ref x2), (3, .ref x3), (4, .int x4)] [] (mk sh V R) (jSr Q) jNo) {sh : List jH} {V : Nat → Nat → Int32} {R : Nat → Nat → Option Nat} {c : Nat} {n : Nat} {x1 : Nat} {x2 : Nat} {x3 : Nat} {x4 : Int32} (hw : wL_law_1741 G Q K23 sh V R c n x1 x2 x3 x4) : J G l ML_law d c n 1741 [(0, .ref 69), (1, .ref x1), (2, .ref x2), (3, .ref x3), (4, .int x4)] [] (mk sh V R) (jSr Q) jNo := by
  unfold wL_law_1741 at hw
  refine J.aload_n 1 dL_law_1741 rfl ?_
  refine J.aload_n 3 dL_law_1742 rfl ?_
  obtain ⟨hq1743_x1, hw⟩ := hw
  obtain ⟨c11743, n11743, c21743, n21743, hc1743, hd1743, hw⟩ := hw
  refine uL_238 rfl htr hq1743_x1 dL_law_1743 (by omega) (Nat.le_of_ble_eq_true rfl) hw ⟨hc1743, hd1743⟩ ?_
  clear hw
  intro r1743 sh1743 V1743 R1743 hw
  refine J.istore (lv' := [(5, .int r1743), (0, .ref 69), (1, .ref x1), (2, .ref x2), (3, .ref x3), (4, .int x4)]) dL_law_1746 (by decide) rfl ?_
  refine J.aload_n 3 dL_law_1748 rfl ?_
  obtain ⟨hq1749_x2, hw⟩ := hw
  refine uL_240 rfl htr hq1749_x2 dL_law_1749 (by omega) (Nat.le_of_ble_eq_true rfl) hw ?_
  clear hw
  intro r1749 V1749 hw
  refine J.istore (lv' := [(6, .int r1749), (5, .int r1743), (0, .ref 69), (1, .ref x1), (2, .ref x2), (3, .ref x3), (4, .int x4)]) dL_law_1752 (by decide) rfl ?_
  refine J.aload_n 4 dL_law_1754 rfl ?_
  obtain ⟨hq1755_x2, hw⟩ := hw
  refine uL_159 rfl htr hq1755_x2 dL_law_1755 (by omega) (Nat.le_of_ble_eq_true rfl) hw ?_
  clear hw
  intro r1755 hw
  refine J.iload 1 dL_law_1758 rfl ?_
  refine J.icmp_eq 1765 dL_law_1760 (by decide) ⟨fun c1760 => ?_, fun c1760 => ?_⟩
  · obtain ⟨hw, -⟩ := hw
    specialize hw c1760
    refine J.iload 1 dL_law_1765 rfl ?_
    refine J.if_ne 1782 dL_law_1767 (by decide) ⟨fun c1767 => ?_, fun c1767 => ?_⟩
    · obtain ⟨hw, -⟩ := hw
      specialize hw c1767
      refine J.goto 3184 dL_law_1782 (by decide) ?_
      refine J.iincN 6 (K := (6 : Int32)) (lv' := fun y3184 => [(4, .int y3184), (6, .int r1749), (5, .int r1743), (0, .ref 69), (1, .ref x1), (2, .ref x2), (3, .ref x3)]) dL_law_3184 rfl (by decide) (by decide) (fun _ => rfl) hw ?_
      clear hw
      intro y3184 hw
      refine J.goto 23 dL_law_3187 (by decide) ?_
      exact J.pick [3, 4, 5, 6, 0] rfl (hK23 _ _ _ _ _ _ _ _ _ hw)
    · obtain ⟨-, hw⟩ := hw
      specialize hw c1767
      refine J.aload_n 5 dL_law_1770 rfl ?_
      refine J.iconst (v := (0 : Int32)) dL_law_1771 (by decide) ?_
      obtain ⟨f1772, hk1772, hn1772, hw⟩ := hw
      refine JV.lald0 dL_law_1772 hn1772 hk1772 ?_
      refine J.iload 0 dL_law_1773 rfl ?_
      refine J.i2l dL_law_1775 ?_
      refine J.lcmp dL_law_1776 ?_
      refine J.if_eq 1782 dL_law_1777 (by decide) ⟨fun c1777 => ?_, fun c1777 => ?_⟩
      · obtain ⟨hw, -⟩ := hw
        specialize hw c1777
        refine J.goto 3184 dL_law_1782 (by decide) ?_
        refine J.iincN 6 (K := (6 : Int32)) (lv' := fun y3184 => [(4, .int y3184), (6, .int r1749), (5, .int r1743), (0, .ref 69), (1, .ref x1), (2, .ref x2), (3, .ref x3)]) dL_law_3184 rfl (by decide) (by decide) (fun _ => rfl) hw ?_
        clear hw
        intro y3184 hw
        refine J.goto 23 dL_law_3187 (by decide) ?_
        exact J.pick [3, 4, 5, 6, 0] rfl (hK23 _ _ _ _ _ _ _ _ _ hw)
      · obtain ⟨-, hw⟩ := hw
        specialize hw c1777
        refine J.iconst (v := (0 : Int32)) dL_law_1780 (by decide) ?_
        exact J.zret rfl rfl dL_law_1781 ⟨_, _, _, rfl, _, rfl, hw⟩
  · obtain ⟨-, hw⟩ := hw
    specialize hw c1760
    refine J.iconst (v := (0 : Int32)) dL_law_1763 (by decide) ?_
    exact J.zret rfl rfl dL_law_1764 ⟨_, _, _, rfl, _, rfl, hw⟩
def wL_law_1845 (G : jG) (Q : Int32 → List jH → (Nat → Nat → Int32) → (Nat → Nat → Option Nat) → Prop) (K23 : List jH → (Nat → Nat → Int32) → (Nat → Nat → Option Nat) → Nat → Nat → Nat → Nat → Nat → Int32 → Prop) (sh : List jH) (V : Nat → Nat → Int32) (R : Nat → Nat → Option Nat) (c : Nat) (n : Nat) (x1 : Nat) (x2 : Nat) (x3 : Nat) (x4 : Int32) (x5 : Int32) (s0 : Nat) (s1 : Int32) (s2 : Int32) (s3 : Int32) : Prop :=
  (jReg shX6 sh s0 ∧ (wX6_row s0 V s1 s2 s3 (fun r1845 V1845 => (jReg shX6 sh x2 ∧ (wX6_thrown x2 V1845 (fun r1851 => ((r1851 = x5 → ((¬ x5 = 0 → (∀ y3184 : Int32, y3184 = x4 + (6 : Int32) → K23 sh V1845 R c n x1 x2 x3 y3184)) ∧ (x5 = 0 → (∃ f1868 : Nat → Int64, sh[x3]? = some (jF (.inl (3, 1, .inr (.inl f1868)))) ∧ jn ≤ x3 ∧ (((lg_cmp (f1868 0) r1845.toInt64) = 0 → (∀ y3184 : Int32, y3184 = x4 + (6 : Int32) → K23 sh V1845 R c n x1 x2 x3 y3184)) ∧ (¬ (lg_cmp (f1868 0) r1845.toInt64) = 0 → Q (0 : Int32) sh V1845 R)))))) ∧ (¬ r1851 = x5 → Q (0 : Int32) sh V1845 R))))))))
theorem rL_law_1845 {G : jG} {l : Launch} {d : Nat} (htr : l.stackTraces = false) (hdd : 107 ≤ d) {Q : Int32 → List jH → (Nat → Nat → Int32) → (Nat → Nat → Option Nat) → Prop} {K23 : List jH → (Nat → Nat → Int32) → (Nat → Nat → Option Nat) → Nat → Nat → Nat → Nat → Nat → Int32 → Prop} (hK23 : ∀ (sh : List jH) (V : Nat → Nat → Int32) (R : Nat → Nat → Option Nat) (c : Nat) (n : Nat) (x1 : Nat) (x2 : Nat) (x3 : Nat) (x4 : Int32), K23 sh V R c n x1 x2 x3 x4 → J G l ML_law d c n 23 [(0, .ref 69), (1, .ref x1), (2, .ref x2), (3, .ref x3), (4, .int x4)] [] (mk sh V R) (jSr Q) jNo) {sh : List jH} {V : Nat → Nat → Int32} {R : Nat → Nat → Option Nat} {c : Nat} {n : Nat} {x1 : Nat} {x2 : Nat} {x3 : Nat} {x4 : Int32} {x5 : Int32} {s0 : Nat} {s1 : Int32} {s2 : Int32} {s3 : Int32} (hw : wL_law_1845 G Q K23 sh V R c n x1 x2 x3 x4 x5 s0 s1 s2 s3) : J G l ML_law d c n 1845 [(0, .ref 69), (1, .ref x1), (2, .ref x2), (3, .ref x3), (4, .int x4), (5, .int x5)] [.int s3, .int s2, .int s1, .ref s0] (mk sh V R) (jSr Q) jNo := by
  unfold wL_law_1845 at hw
  obtain ⟨hq1845_s0, hw⟩ := hw
  refine uL_243 rfl htr hq1845_s0 dL_law_1845 (by omega) (Nat.le_of_ble_eq_true rfl) hw ?_
  clear hw
  intro r1845 V1845 hw
  refine J.istore (lv' := [(6, .int r1845), (0, .ref 69), (1, .ref x1), (2, .ref x2), (3, .ref x3), (4, .int x4), (5, .int x5)]) dL_law_1848 (by decide) rfl ?_
  refine J.aload_n 3 dL_law_1850 rfl ?_
  obtain ⟨hq1851_x2, hw⟩ := hw
  refine uL_159 rfl htr hq1851_x2 dL_law_1851 (by omega) (Nat.le_of_ble_eq_true rfl) hw ?_
  clear hw
  intro r1851 hw
  refine J.iload 6 dL_law_1854 rfl ?_
  refine J.icmp_eq 1861 dL_law_1856 (by decide) ⟨fun c1856 => ?_, fun c1856 => ?_⟩
  · obtain ⟨hw, -⟩ := hw
    specialize hw c1856
    refine J.iload 6 dL_law_1861 rfl ?_
    refine J.if_ne 1878 dL_law_1863 (by decide) ⟨fun c1863 => ?_, fun c1863 => ?_⟩
    · obtain ⟨hw, -⟩ := hw
      specialize hw c1863
      refine J.goto 3184 dL_law_1878 (by decide) ?_
      refine J.iincN 5 (K := (6 : Int32)) (lv' := fun y3184 => [(4, .int y3184), (6, .int r1845), (0, .ref 69), (1, .ref x1), (2, .ref x2), (3, .ref x3), (5, .int x5)]) dL_law_3184 rfl (by decide) (by decide) (fun _ => rfl) hw ?_
      clear hw
      intro y3184 hw
      refine J.goto 23 dL_law_3187 (by decide) ?_
      exact J.pick [2, 3, 4, 5, 0] rfl (hK23 _ _ _ _ _ _ _ _ _ hw)
    · obtain ⟨-, hw⟩ := hw
      specialize hw c1863
      refine J.aload_n 4 dL_law_1866 rfl ?_
      refine J.iconst (v := (0 : Int32)) dL_law_1867 (by decide) ?_
      obtain ⟨f1868, hk1868, hn1868, hw⟩ := hw
      refine JV.lald0 dL_law_1868 hn1868 hk1868 ?_
      refine J.iload 0 dL_law_1869 rfl ?_
      refine J.i2l dL_law_1871 ?_
      refine J.lcmp dL_law_1872 ?_
      refine J.if_eq 1878 dL_law_1873 (by decide) ⟨fun c1873 => ?_, fun c1873 => ?_⟩
      · obtain ⟨hw, -⟩ := hw
        specialize hw c1873
        refine J.goto 3184 dL_law_1878 (by decide) ?_
        refine J.iincN 5 (K := (6 : Int32)) (lv' := fun y3184 => [(4, .int y3184), (6, .int r1845), (0, .ref 69), (1, .ref x1), (2, .ref x2), (3, .ref x3), (5, .int x5)]) dL_law_3184 rfl (by decide) (by decide) (fun _ => rfl) hw ?_
        clear hw
        intro y3184 hw
        refine J.goto 23 dL_law_3187 (by decide) ?_
        exact J.pick [2, 3, 4, 5, 0] rfl (hK23 _ _ _ _ _ _ _ _ _ hw)
      · obtain ⟨-, hw⟩ := hw
        specialize hw c1873
        refine J.iconst (v := (0 : Int32)) dL_law_1876 (by decide) ?_
        exact J.zret rfl rfl dL_law_1877 ⟨_, _, _, rfl, _, rfl, hw⟩
  · obtain ⟨-, hw⟩ := hw
    specialize hw c1856
    refine J.iconst (v := (0 : Int32)) dL_law_1859 (by decide) ?_
    exact J.zret rfl rfl dL_law_1860 ⟨_, _, _, rfl, _, rfl, hw⟩
def wL_law_1812 (G : jG) (Q : Int32 → List jH → (Nat → Nat → Int32) → (Nat → Nat → Option Nat) → Prop) (K23 : List jH → (Nat → Nat → Int32) → (Nat → Nat → Option Nat) → Nat → Nat → Nat → Nat → Nat → Int32 → Prop) (sh : List jH) (V : Nat → Nat → Int32) (R : Nat → Nat → Option Nat) (c : Nat) (n : Nat) (x1 : Nat) (x2 : Nat) (x3 : Nat) (x4 : Int32) (s0 : Nat) (s1 : Int32) (s2 : Int32) (s3 : Int32) : Prop :=
  (jReg shX1 sh s0 ∧ (∃ c11813 n11813 c21813 n21813 : Nat, c11813 + c21813 ≤ c ∧ n11813 + n21813 ≤ n ∧ (wX0_row s0 sh V R c11813 n11813 s1 s2 s3 x3 (fun r1813 sh1813 V1813 R1813 => (vp_in (x4 + (1 : Int32)) (jScN G) ∧ (vp_in (x4 + (2 : Int32)) (jScN G) ∧ (vp_in (x4 + (3 : Int32)) (jScN G) ∧ (((jScF G (x4 + (3 : Int32)).toNatClampNeg) = 0 → wL_law_1845 G Q K23 sh1813 V1813 R1813 c21813 n21813 x1 x2 x3 x4 r1813 x2 (jScF G (x4 + (1 : Int32)).toNatClampNeg) (jScF G (x4 + (2 : Int32)).toNatClampNeg) (0 : Int32)) ∧ (¬ (jScF G (x4 + (3 : Int32)).toNatClampNeg) = 0 → wL_law_1845 G Q K23 sh1813 V1813 R1813 c21813 n21813 x1 x2 x3 x4 r1813 x2 (jScF G (x4 + (1 : Int32)).toNatClampNeg) (jScF G (x4 + (2 : Int32)).toNatClampNeg) (1 : Int32))))))))))
theorem rL_law_1812 {G : jG} {l : Launch} {d : Nat} (htr : l.stackTraces = false) (hdd : 107 ≤ d) {Q : Int32 → List jH → (Nat → Nat → Int32) → (Nat → Nat → Option Nat) → Prop} {K23 : List jH → (Nat → Nat → Int32) → (Nat → Nat → Option Nat) → Nat → Nat → Nat → Nat → Nat → Int32 → Prop} (hK23 : ∀ (sh : List jH) (V : Nat → Nat → Int32) (R : Nat → Nat → Option Nat) (c : Nat) (n : Nat) (x1 : Nat) (x2 : Nat) (x3 : Nat) (x4 : Int32), K23 sh V R c n x1 x2 x3 x4 → J G l ML_law d c n 23 [(0, .ref 69), (1, .ref x1), (2, .ref x2), (3, .ref x3), (4, .int x4)] [] (mk sh V R) (jSr Q) jNo) {sh : List jH} {V : Nat → Nat → Int32} {R : Nat → Nat → Option Nat} {c : Nat} {n : Nat} {x1 : Nat} {x2 : Nat} {x3 : Nat} {x4 : Int32} {s0 : Nat} {s1 : Int32} {s2 : Int32} {s3 : Int32} (hw : wL_law_1812 G Q K23 sh V R c n x1 x2 x3 x4 s0 s1 s2 s3) : J G l ML_law d c n 1812 [(0, .ref 69), (1, .ref x1), (2, .ref x2), (3, .ref x3), (4, .int x4)] [.int s3, .int s2, .int s1, .ref s0] (mk sh V R) (jSr Q) jNo := by
  unfold wL_law_1812 at hw
  refine J.aload_n 3 dL_law_1812 rfl ?_
  obtain ⟨hq1813_s0, hw⟩ := hw
  obtain ⟨c11813, n11813, c21813, n21813, hc1813, hd1813, hw⟩ := hw
  refine uL_241 rfl htr hq1813_s0 dL_law_1813 (by omega) (Nat.le_of_ble_eq_true rfl) hw ⟨hc1813, hd1813⟩ ?_
  clear hw
  intro r1813 sh1813 V1813 R1813 hw
  refine J.istore (lv' := [(5, .int r1813), (0, .ref 69), (1, .ref x1), (2, .ref x2), (3, .ref x3), (4, .int x4)]) dL_law_1816 (by decide) rfl ?_
  refine J.aload_n 3 dL_law_1818 rfl ?_
  refine J.aload_n 1 dL_law_1819 rfl ?_
  refine J.iload 5 dL_law_1820 rfl ?_
  refine J.iconst (v := (1 : Int32)) dL_law_1822 (by decide) ?_
  refine J.iadd dL_law_1823 ?_
  obtain ⟨h1824, hw⟩ := hw
  refine J.sld dL_law_1824 h1824 ?_
  refine J.aload_n 1 dL_law_1825 rfl ?_
  refine J.iload 5 dL_law_1826 rfl ?_
  refine J.iconst (v := (2 : Int32)) dL_law_1828 (by decide) ?_
  refine J.iadd dL_law_1829 ?_
  obtain ⟨h1830, hw⟩ := hw
  refine J.sld dL_law_1830 h1830 ?_
  refine J.aload_n 1 dL_law_1831 rfl ?_
  refine J.iload 5 dL_law_1832 rfl ?_
  refine J.iconst (v := (3 : Int32)) dL_law_1834 (by decide) ?_
  refine J.iadd dL_law_1835 ?_
  obtain ⟨h1836, hw⟩ := hw
  refine J.sld dL_law_1836 h1836 ?_
  refine J.if_eq 1844 dL_law_1837 (by decide) ⟨fun c1837 => ?_, fun c1837 => ?_⟩
  · obtain ⟨hw, -⟩ := hw
    specialize hw c1837
    refine J.iconst (v := (0 : Int32)) dL_law_1844 (by decide) ?_
    exact J.pick [1, 2, 3, 4, 5, 0] rfl (rL_law_1845 htr hdd hK23 hw)
  · obtain ⟨-, hw⟩ := hw
    specialize hw c1837
    refine J.iconst (v := (1 : Int32)) dL_law_1840 (by decide) ?_
    refine J.goto 1845 dL_law_1841 (by decide) ?_
    exact J.pick [1, 2, 3, 4, 5, 0] rfl (rL_law_1845 htr hdd hK23 hw)
def wL_law_1785 (G : jG) (Q : Int32 → List jH → (Nat → Nat → Int32) → (Nat → Nat → Option Nat) → Prop) (K23 : List jH → (Nat → Nat → Int32) → (Nat → Nat → Option Nat) → Nat → Nat → Nat → Nat → Nat → Int32 → Prop) (sh : List jH) (V : Nat → Nat → Int32) (R : Nat → Nat → Option Nat) (c : Nat) (n : Nat) (x1 : Nat) (x2 : Nat) (x3 : Nat) (x4 : Int32) : Prop :=
  (vp_in (x4 + (1 : Int32)) (jScN G) ∧ (vp_in (x4 + (2 : Int32)) (jScN G) ∧ (vp_in (x4 + (3 : Int32)) (jScN G) ∧ (((jScF G (x4 + (3 : Int32)).toNatClampNeg) = 0 → wL_law_1812 G Q K23 sh V R c n x1 x2 x3 x4 x1 (jScF G (x4 + (1 : Int32)).toNatClampNeg) (jScF G (x4 + (2 : Int32)).toNatClampNeg) (0 : Int32)) ∧ (¬ (jScF G (x4 + (3 : Int32)).toNatClampNeg) = 0 → wL_law_1812 G Q K23 sh V R c n x1 x2 x3 x4 x1 (jScF G (x4 + (1 : Int32)).toNatClampNeg) (jScF G (x4 + (2 : Int32)).toNatClampNeg) (1 : Int32))))))
theorem rL_law_1785 {G : jG} {l : Launch} {d : Nat} (htr : l.stackTraces = false) (hdd : 107 ≤ d) {Q : Int32 → List jH → (Nat → Nat → Int32) → (Nat → Nat → Option Nat) → Prop} {K23 : List jH → (Nat → Nat → Int32) → (Nat → Nat → Option Nat) → Nat → Nat → Nat → Nat → Nat → Int32 → Prop} (hK23 : ∀ (sh : List jH) (V : Nat → Nat → Int32) (R : Nat → Nat → Option Nat) (c : Nat) (n : Nat) (x1 : Nat) (x2 : Nat) (x3 : Nat) (x4 : Int32), K23 sh V R c n x1 x2 x3 x4 → J G l ML_law d c n 23 [(0, .ref 69), (1, .ref x1), (2, .ref x2), (3, .ref x3), (4, .int x4)] [] (mk sh V R) (jSr Q) jNo) {sh : List jH} {V : Nat → Nat → Int32} {R : Nat → Nat → Option Nat} {c : Nat} {n : Nat} {x1 : Nat} {x2 : Nat} {x3 : Nat} {x4 : Int32} (hw : wL_law_1785 G Q K23 sh V R c n x1 x2 x3 x4) : J G l ML_law d c n 1785 [(0, .ref 69), (1, .ref x1), (2, .ref x2), (3, .ref x3), (4, .int x4)] [] (mk sh V R) (jSr Q) jNo := by
  unfold wL_law_1785 at hw
  refine J.aload_n 1 dL_law_1785 rfl ?_
  refine J.aload_n 0 dL_law_1786 rfl ?_
  refine J.iload 4 dL_law_1787 rfl ?_
  refine J.iconst (v := (1 : Int32)) dL_law_1789 (by decide) ?_
  refine J.iadd dL_law_1790 ?_
  obtain ⟨h1791, hw⟩ := hw
  refine J.sld dL_law_1791 h1791 ?_
  refine J.aload_n 0 dL_law_1792 rfl ?_
  refine J.iload 4 dL_law_1793 rfl ?_
  refine J.iconst (v := (2 : Int32)) dL_law_1795 (by decide) ?_
  refine J.iadd dL_law_1796 ?_
  obtain ⟨h1797, hw⟩ := hw
  refine J.sld dL_law_1797 h1797 ?_
  refine J.aload_n 0 dL_law_1798 rfl ?_
  refine J.iload 4 dL_law_1799 rfl ?_
  refine J.iconst (v := (3 : Int32)) dL_law_1801 (by decide) ?_
  refine J.iadd dL_law_1802 ?_
  obtain ⟨h1803, hw⟩ := hw
  refine J.sld dL_law_1803 h1803 ?_
  refine J.if_eq 1811 dL_law_1804 (by decide) ⟨fun c1804 => ?_, fun c1804 => ?_⟩
  · obtain ⟨hw, -⟩ := hw
    specialize hw c1804
    refine J.iconst (v := (0 : Int32)) dL_law_1811 (by decide) ?_
    exact (rL_law_1812 htr hdd hK23 hw)
  · obtain ⟨-, hw⟩ := hw
    specialize hw c1804
    refine J.iconst (v := (1 : Int32)) dL_law_1807 (by decide) ?_
    refine J.goto 1812 dL_law_1808 (by decide) ?_
    exact (rL_law_1812 htr hdd hK23 hw)
def wL_law_1881 (G : jG) (Q : Int32 → List jH → (Nat → Nat → Int32) → (Nat → Nat → Option Nat) → Prop) (K23 : List jH → (Nat → Nat → Int32) → (Nat → Nat → Option Nat) → Nat → Nat → Nat → Nat → Nat → Int32 → Prop) (sh : List jH) (V : Nat → Nat → Int32) (R : Nat → Nat → Option Nat) (c : Nat) (n : Nat) (x1 : Nat) (x2 : Nat) (x3 : Nat) (x4 : Int32) : Prop :=
  (vp_in (x4 + (1 : Int32)) (jScN G) ∧ (vp_in (x4 + (2 : Int32)) (jScN G) ∧ (jReg shX1 sh x1 ∧ (∃ c11895 n11895 c21895 n21895 : Nat, c11895 + c21895 ≤ c ∧ n11895 + n21895 ≤ n ∧ (wX0_afternoon x1 sh V R c11895 n11895 (jScF G (x4 + (1 : Int32)).toNatClampNeg) (jScF G (x4 + (2 : Int32)).toNatClampNeg) x3 (fun r1895 sh1895 V1895 R1895 => (vp_in (x4 + (1 : Int32)) (jScN G) ∧ (vp_in (x4 + (2 : Int32)) (jScN G) ∧ (jReg shX6 sh1895 x2 ∧ (wX6_afternoon x2 V1895 (jScF G (x4 + (1 : Int32)).toNatClampNeg) (jScF G (x4 + (2 : Int32)).toNatClampNeg) (fun r1913 V1913 => (jReg shX6 sh1895 x2 ∧ (wX6_thrown x2 V1913 (fun r1919 => ((r1919 = r1895 → ((¬ r1895 = 0 → (∀ y3184 : Int32, y3184 = x4 + (6 : Int32) → K23 sh1895 V1913 R1895 c21895 n21895 x1 x2 x3 y3184)) ∧ (r1895 = 0 → (∃ f1936 : Nat → Int64, sh1895[x3]? = some (jF (.inl (3, 1, .inr (.inl f1936)))) ∧ jn ≤ x3 ∧ (((lg_cmp (f1936 0) r1913.toInt64) = 0 → (∀ y3184 : Int32, y3184 = x4 + (6 : Int32) → K23 sh1895 V1913 R1895 c21895 n21895 x1 x2 x3 y3184)) ∧ (¬ (lg_cmp (f1936 0) r1913.toInt64) = 0 → Q (0 : Int32) sh1895 V1913 R1895)))))) ∧ (¬ r1919 = r1895 → Q (0 : Int32) sh1895 V1913 R1895))))))))))))))))
theorem rL_law_1881 {G : jG} {l : Launch} {d : Nat} (htr : l.stackTraces = false) (hdd : 107 ≤ d) {Q : Int32 → List jH → (Nat → Nat → Int32) → (Nat → Nat → Option Nat) → Prop} {K23 : List jH → (Nat → Nat → Int32) → (Nat → Nat → Option Nat) → Nat → Nat → Nat → Nat → Nat → Int32 → Prop} (hK23 : ∀ (sh : List jH) (V : Nat → Nat → Int32) (R : Nat → Nat → Option Nat) (c : Nat) (n : Nat) (x1 : Nat) (x2 : Nat) (x3 : Nat) (x4 : Int32), K23 sh V R c n x1 x2 x3 x4 → J G l ML_law d c n 23 [(0, .ref 69), (1, .ref x1), (2, .ref x2), (3, .ref x3), (4, .int x4)] [] (mk sh V R) (jSr Q) jNo) {sh : List jH} {V : Nat → Nat → Int32} {R : Nat → Nat → Option Nat} {c : Nat} {n : Nat} {x1 : Nat} {x2 : Nat} {x3 : Nat} {x4 : Int32} (hw : wL_law_1881 G Q K23 sh V R c n x1 x2 x3 x4) : J G l ML_law d c n 1881 [(0, .ref 69), (1, .ref x1), (2, .ref x2), (3, .ref x3), (4, .int x4)] [] (mk sh V R) (jSr Q) jNo := by
  unfold wL_law_1881 at hw
  refine J.aload_n 1 dL_law_1881 rfl ?_
  refine J.aload_n 0 dL_law_1882 rfl ?_
  refine J.iload 4 dL_law_1883 rfl ?_
  refine J.iconst (v := (1 : Int32)) dL_law_1885 (by decide) ?_
  refine J.iadd dL_law_1886 ?_
  obtain ⟨h1887, hw⟩ := hw
  refine J.sld dL_law_1887 h1887 ?_
  refine J.aload_n 0 dL_law_1888 rfl ?_
  refine J.iload 4 dL_law_1889 rfl ?_
  refine J.iconst (v := (2 : Int32)) dL_law_1891 (by decide) ?_
  refine J.iadd dL_law_1892 ?_
  obtain ⟨h1893, hw⟩ := hw
  refine J.sld dL_law_1893 h1893 ?_
  refine J.aload_n 3 dL_law_1894 rfl ?_
  obtain ⟨hq1895_x1, hw⟩ := hw
  obtain ⟨c11895, n11895, c21895, n21895, hc1895, hd1895, hw⟩ := hw
  refine uL_244 rfl htr hq1895_x1 dL_law_1895 (by omega) (Nat.le_of_ble_eq_true rfl) hw ⟨hc1895, hd1895⟩ ?_
  clear hw
  intro r1895 sh1895 V1895 R1895 hw
  refine J.istore (lv' := [(5, .int r1895), (0, .ref 69), (1, .ref x1), (2, .ref x2), (3, .ref x3), (4, .int x4)]) dL_law_1898 (by decide) rfl ?_
  refine J.aload_n 3 dL_law_1900 rfl ?_
  refine J.aload_n 1 dL_law_1901 rfl ?_
  refine J.iload 5 dL_law_1902 rfl ?_
  refine J.iconst (v := (1 : Int32)) dL_law_1904 (by decide) ?_
  refine J.iadd dL_law_1905 ?_
  obtain ⟨h1906, hw⟩ := hw
  refine J.sld dL_law_1906 h1906 ?_
  refine J.aload_n 1 dL_law_1907 rfl ?_
  refine J.iload 5 dL_law_1908 rfl ?_
  refine J.iconst (v := (2 : Int32)) dL_law_1910 (by decide) ?_
  refine J.iadd dL_law_1911 ?_
  obtain ⟨h1912, hw⟩ := hw
  refine J.sld dL_law_1912 h1912 ?_
  obtain ⟨hq1913_x2, hw⟩ := hw
  refine uL_246 rfl htr hq1913_x2 dL_law_1913 (by omega) (Nat.le_of_ble_eq_true rfl) hw ?_
  clear hw
  intro r1913 V1913 hw
  refine J.istore (lv' := [(6, .int r1913), (5, .int r1895), (0, .ref 69), (1, .ref x1), (2, .ref x2), (3, .ref x3), (4, .int x4)]) dL_law_1916 (by decide) rfl ?_
  refine J.aload_n 4 dL_law_1918 rfl ?_
  obtain ⟨hq1919_x2, hw⟩ := hw
  refine uL_159 rfl htr hq1919_x2 dL_law_1919 (by omega) (Nat.le_of_ble_eq_true rfl) hw ?_
  clear hw
  intro r1919 hw
  refine J.iload 1 dL_law_1922 rfl ?_
  refine J.icmp_eq 1929 dL_law_1924 (by decide) ⟨fun c1924 => ?_, fun c1924 => ?_⟩
  · obtain ⟨hw, -⟩ := hw
    specialize hw c1924
    refine J.iload 1 dL_law_1929 rfl ?_
    refine J.if_ne 1946 dL_law_1931 (by decide) ⟨fun c1931 => ?_, fun c1931 => ?_⟩
    · obtain ⟨hw, -⟩ := hw
      specialize hw c1931
      refine J.goto 3184 dL_law_1946 (by decide) ?_
      refine J.iincN 6 (K := (6 : Int32)) (lv' := fun y3184 => [(4, .int y3184), (6, .int r1913), (5, .int r1895), (0, .ref 69), (1, .ref x1), (2, .ref x2), (3, .ref x3)]) dL_law_3184 rfl (by decide) (by decide) (fun _ => rfl) hw ?_
      clear hw
      intro y3184 hw
      refine J.goto 23 dL_law_3187 (by decide) ?_
      exact J.pick [3, 4, 5, 6, 0] rfl (hK23 _ _ _ _ _ _ _ _ _ hw)
    · obtain ⟨-, hw⟩ := hw
      specialize hw c1931
      refine J.aload_n 5 dL_law_1934 rfl ?_
      refine J.iconst (v := (0 : Int32)) dL_law_1935 (by decide) ?_
      obtain ⟨f1936, hk1936, hn1936, hw⟩ := hw
      refine JV.lald0 dL_law_1936 hn1936 hk1936 ?_
      refine J.iload 0 dL_law_1937 rfl ?_
      refine J.i2l dL_law_1939 ?_
      refine J.lcmp dL_law_1940 ?_
      refine J.if_eq 1946 dL_law_1941 (by decide) ⟨fun c1941 => ?_, fun c1941 => ?_⟩
      · obtain ⟨hw, -⟩ := hw
        specialize hw c1941
        refine J.goto 3184 dL_law_1946 (by decide) ?_
        refine J.iincN 6 (K := (6 : Int32)) (lv' := fun y3184 => [(4, .int y3184), (6, .int r1913), (5, .int r1895), (0, .ref 69), (1, .ref x1), (2, .ref x2), (3, .ref x3)]) dL_law_3184 rfl (by decide) (by decide) (fun _ => rfl) hw ?_
        clear hw
        intro y3184 hw
        refine J.goto 23 dL_law_3187 (by decide) ?_
        exact J.pick [3, 4, 5, 6, 0] rfl (hK23 _ _ _ _ _ _ _ _ _ hw)
      · obtain ⟨-, hw⟩ := hw
        specialize hw c1941
        refine J.iconst (v := (0 : Int32)) dL_law_1944 (by decide) ?_
        exact J.zret rfl rfl dL_law_1945 ⟨_, _, _, rfl, _, rfl, hw⟩
  · obtain ⟨-, hw⟩ := hw
    specialize hw c1924
    refine J.iconst (v := (0 : Int32)) dL_law_1927 (by decide) ?_
    exact J.zret rfl rfl dL_law_1928 ⟨_, _, _, rfl, _, rfl, hw⟩
def wL_law_1985 (G : jG) (Q : Int32 → List jH → (Nat → Nat → Int32) → (Nat → Nat → Option Nat) → Prop) (K23 : List jH → (Nat → Nat → Int32) → (Nat → Nat → Option Nat) → Nat → Nat → Nat → Nat → Nat → Int32 → Prop) (sh : List jH) (V : Nat → Nat → Int32) (R : Nat → Nat → Option Nat) (c : Nat) (n : Nat) (x1 : Nat) (x2 : Nat) (x3 : Nat) (x4 : Int32) (x5 : Int32) (s0 : Nat) (s1 : Int32) : Prop :=
  (jReg shX6 sh s0 ∧ (wX6_rules s0 V s1 (fun r1985 V1985 => (jReg shX6 sh x2 ∧ (wX6_thrown x2 V1985 (fun r1991 => ((r1991 = x5 → ((¬ x5 = 0 → (∀ y3184 : Int32, y3184 = x4 + (6 : Int32) → K23 sh V1985 R c n x1 x2 x3 y3184)) ∧ (x5 = 0 → (∃ f2008 : Nat → Int64, sh[x3]? = some (jF (.inl (3, 1, .inr (.inl f2008)))) ∧ jn ≤ x3 ∧ (((lg_cmp (f2008 0) r1985.toInt64) = 0 → (∀ y3184 : Int32, y3184 = x4 + (6 : Int32) → K23 sh V1985 R c n x1 x2 x3 y3184)) ∧ (¬ (lg_cmp (f2008 0) r1985.toInt64) = 0 → Q (0 : Int32) sh V1985 R)))))) ∧ (¬ r1991 = x5 → Q (0 : Int32) sh V1985 R))))))))
theorem rL_law_1985 {G : jG} {l : Launch} {d : Nat} (htr : l.stackTraces = false) (hdd : 107 ≤ d) {Q : Int32 → List jH → (Nat → Nat → Int32) → (Nat → Nat → Option Nat) → Prop} {K23 : List jH → (Nat → Nat → Int32) → (Nat → Nat → Option Nat) → Nat → Nat → Nat → Nat → Nat → Int32 → Prop} (hK23 : ∀ (sh : List jH) (V : Nat → Nat → Int32) (R : Nat → Nat → Option Nat) (c : Nat) (n : Nat) (x1 : Nat) (x2 : Nat) (x3 : Nat) (x4 : Int32), K23 sh V R c n x1 x2 x3 x4 → J G l ML_law d c n 23 [(0, .ref 69), (1, .ref x1), (2, .ref x2), (3, .ref x3), (4, .int x4)] [] (mk sh V R) (jSr Q) jNo) {sh : List jH} {V : Nat → Nat → Int32} {R : Nat → Nat → Option Nat} {c : Nat} {n : Nat} {x1 : Nat} {x2 : Nat} {x3 : Nat} {x4 : Int32} {x5 : Int32} {s0 : Nat} {s1 : Int32} (hw : wL_law_1985 G Q K23 sh V R c n x1 x2 x3 x4 x5 s0 s1) : J G l ML_law d c n 1985 [(0, .ref 69), (1, .ref x1), (2, .ref x2), (3, .ref x3), (4, .int x4), (5, .int x5)] [.int s1, .ref s0] (mk sh V R) (jSr Q) jNo := by
  unfold wL_law_1985 at hw
  obtain ⟨hq1985_s0, hw⟩ := hw
  refine uL_250 rfl htr hq1985_s0 dL_law_1985 (by omega) (Nat.le_of_ble_eq_true rfl) hw ?_
  clear hw
  intro r1985 V1985 hw
  refine J.istore (lv' := [(6, .int r1985), (0, .ref 69), (1, .ref x1), (2, .ref x2), (3, .ref x3), (4, .int x4), (5, .int x5)]) dL_law_1988 (by decide) rfl ?_
  refine J.aload_n 3 dL_law_1990 rfl ?_
  obtain ⟨hq1991_x2, hw⟩ := hw
  refine uL_159 rfl htr hq1991_x2 dL_law_1991 (by omega) (Nat.le_of_ble_eq_true rfl) hw ?_
  clear hw
  intro r1991 hw
  refine J.iload 6 dL_law_1994 rfl ?_
  refine J.icmp_eq 2001 dL_law_1996 (by decide) ⟨fun c1996 => ?_, fun c1996 => ?_⟩
  · obtain ⟨hw, -⟩ := hw
    specialize hw c1996
    refine J.iload 6 dL_law_2001 rfl ?_
    refine J.if_ne 2018 dL_law_2003 (by decide) ⟨fun c2003 => ?_, fun c2003 => ?_⟩
    · obtain ⟨hw, -⟩ := hw
      specialize hw c2003
      refine J.goto 3184 dL_law_2018 (by decide) ?_
      refine J.iincN 5 (K := (6 : Int32)) (lv' := fun y3184 => [(4, .int y3184), (6, .int r1985), (0, .ref 69), (1, .ref x1), (2, .ref x2), (3, .ref x3), (5, .int x5)]) dL_law_3184 rfl (by decide) (by decide) (fun _ => rfl) hw ?_
      clear hw
      intro y3184 hw
      refine J.goto 23 dL_law_3187 (by decide) ?_
      exact J.pick [2, 3, 4, 5, 0] rfl (hK23 _ _ _ _ _ _ _ _ _ hw)
    · obtain ⟨-, hw⟩ := hw
      specialize hw c2003
      refine J.aload_n 4 dL_law_2006 rfl ?_
      refine J.iconst (v := (0 : Int32)) dL_law_2007 (by decide) ?_
      obtain ⟨f2008, hk2008, hn2008, hw⟩ := hw
      refine JV.lald0 dL_law_2008 hn2008 hk2008 ?_
      refine J.iload 0 dL_law_2009 rfl ?_
      refine J.i2l dL_law_2011 ?_
      refine J.lcmp dL_law_2012 ?_
      refine J.if_eq 2018 dL_law_2013 (by decide) ⟨fun c2013 => ?_, fun c2013 => ?_⟩
      · obtain ⟨hw, -⟩ := hw
        specialize hw c2013
        refine J.goto 3184 dL_law_2018 (by decide) ?_
        refine J.iincN 5 (K := (6 : Int32)) (lv' := fun y3184 => [(4, .int y3184), (6, .int r1985), (0, .ref 69), (1, .ref x1), (2, .ref x2), (3, .ref x3), (5, .int x5)]) dL_law_3184 rfl (by decide) (by decide) (fun _ => rfl) hw ?_
        clear hw
        intro y3184 hw
        refine J.goto 23 dL_law_3187 (by decide) ?_
        exact J.pick [2, 3, 4, 5, 0] rfl (hK23 _ _ _ _ _ _ _ _ _ hw)
      · obtain ⟨-, hw⟩ := hw
        specialize hw c2013
        refine J.iconst (v := (0 : Int32)) dL_law_2016 (by decide) ?_
        exact J.zret rfl rfl dL_law_2017 ⟨_, _, _, rfl, _, rfl, hw⟩
  · obtain ⟨-, hw⟩ := hw
    specialize hw c1996
    refine J.iconst (v := (0 : Int32)) dL_law_1999 (by decide) ?_
    exact J.zret rfl rfl dL_law_2000 ⟨_, _, _, rfl, _, rfl, hw⟩
def wL_law_1964 (G : jG) (Q : Int32 → List jH → (Nat → Nat → Int32) → (Nat → Nat → Option Nat) → Prop) (K23 : List jH → (Nat → Nat → Int32) → (Nat → Nat → Option Nat) → Nat → Nat → Nat → Nat → Nat → Int32 → Prop) (sh : List jH) (V : Nat → Nat → Int32) (R : Nat → Nat → Option Nat) (c : Nat) (n : Nat) (x1 : Nat) (x2 : Nat) (x3 : Nat) (x4 : Int32) (s0 : Nat) (s1 : Int32) : Prop :=
  (jReg shX1 sh s0 ∧ (∃ c11965 n11965 c21965 n21965 : Nat, c11965 + c21965 ≤ c ∧ n11965 + n21965 ≤ n ∧ (wX0_rules s0 sh V R c11965 n11965 s1 x3 (fun r1965 sh1965 V1965 R1965 => (vp_in (x4 + (1 : Int32)) (jScN G) ∧ (((jScF G (x4 + (1 : Int32)).toNatClampNeg) = 0 → wL_law_1985 G Q K23 sh1965 V1965 R1965 c21965 n21965 x1 x2 x3 x4 r1965 x2 (0 : Int32)) ∧ (¬ (jScF G (x4 + (1 : Int32)).toNatClampNeg) = 0 → wL_law_1985 G Q K23 sh1965 V1965 R1965 c21965 n21965 x1 x2 x3 x4 r1965 x2 (1 : Int32))))))))
theorem rL_law_1964 {G : jG} {l : Launch} {d : Nat} (htr : l.stackTraces = false) (hdd : 107 ≤ d) {Q : Int32 → List jH → (Nat → Nat → Int32) → (Nat → Nat → Option Nat) → Prop} {K23 : List jH → (Nat → Nat → Int32) → (Nat → Nat → Option Nat) → Nat → Nat → Nat → Nat → Nat → Int32 → Prop} (hK23 : ∀ (sh : List jH) (V : Nat → Nat → Int32) (R : Nat → Nat → Option Nat) (c : Nat) (n : Nat) (x1 : Nat) (x2 : Nat) (x3 : Nat) (x4 : Int32), K23 sh V R c n x1 x2 x3 x4 → J G l ML_law d c n 23 [(0, .ref 69), (1, .ref x1), (2, .ref x2), (3, .ref x3), (4, .int x4)] [] (mk sh V R) (jSr Q) jNo) {sh : List jH} {V : Nat → Nat → Int32} {R : Nat → Nat → Option Nat} {c : Nat} {n : Nat} {x1 : Nat} {x2 : Nat} {x3 : Nat} {x4 : Int32} {s0 : Nat} {s1 : Int32} (hw : wL_law_1964 G Q K23 sh V R c n x1 x2 x3 x4 s0 s1) : J G l ML_law d c n 1964 [(0, .ref 69), (1, .ref x1), (2, .ref x2), (3, .ref x3), (4, .int x4)] [.int s1, .ref s0] (mk sh V R) (jSr Q) jNo := by
  unfold wL_law_1964 at hw
  refine J.aload_n 3 dL_law_1964 rfl ?_
  obtain ⟨hq1965_s0, hw⟩ := hw
  obtain ⟨c11965, n11965, c21965, n21965, hc1965, hd1965, hw⟩ := hw
  refine uL_247 rfl htr hq1965_s0 dL_law_1965 (by omega) (Nat.le_of_ble_eq_true rfl) hw ⟨hc1965, hd1965⟩ ?_
  clear hw
  intro r1965 sh1965 V1965 R1965 hw
  refine J.istore (lv' := [(5, .int r1965), (0, .ref 69), (1, .ref x1), (2, .ref x2), (3, .ref x3), (4, .int x4)]) dL_law_1968 (by decide) rfl ?_
  refine J.aload_n 3 dL_law_1970 rfl ?_
  refine J.aload_n 1 dL_law_1971 rfl ?_
  refine J.iload 5 dL_law_1972 rfl ?_
  refine J.iconst (v := (1 : Int32)) dL_law_1974 (by decide) ?_
  refine J.iadd dL_law_1975 ?_
  obtain ⟨h1976, hw⟩ := hw
  refine J.sld dL_law_1976 h1976 ?_
  refine J.if_eq 1984 dL_law_1977 (by decide) ⟨fun c1977 => ?_, fun c1977 => ?_⟩
  · obtain ⟨hw, -⟩ := hw
    specialize hw c1977
    refine J.iconst (v := (0 : Int32)) dL_law_1984 (by decide) ?_
    exact J.pick [1, 2, 3, 4, 5, 0] rfl (rL_law_1985 htr hdd hK23 hw)
  · obtain ⟨-, hw⟩ := hw
    specialize hw c1977
    refine J.iconst (v := (1 : Int32)) dL_law_1980 (by decide) ?_
    refine J.goto 1985 dL_law_1981 (by decide) ?_
    exact J.pick [1, 2, 3, 4, 5, 0] rfl (rL_law_1985 htr hdd hK23 hw)
def wL_law_1949 (G : jG) (Q : Int32 → List jH → (Nat → Nat → Int32) → (Nat → Nat → Option Nat) → Prop) (K23 : List jH → (Nat → Nat → Int32) → (Nat → Nat → Option Nat) → Nat → Nat → Nat → Nat → Nat → Int32 → Prop) (sh : List jH) (V : Nat → Nat → Int32) (R : Nat → Nat → Option Nat) (c : Nat) (n : Nat) (x1 : Nat) (x2 : Nat) (x3 : Nat) (x4 : Int32) : Prop :=
  (vp_in (x4 + (1 : Int32)) (jScN G) ∧ (((jScF G (x4 + (1 : Int32)).toNatClampNeg) = 0 → wL_law_1964 G Q K23 sh V R c n x1 x2 x3 x4 x1 (0 : Int32)) ∧ (¬ (jScF G (x4 + (1 : Int32)).toNatClampNeg) = 0 → wL_law_1964 G Q K23 sh V R c n x1 x2 x3 x4 x1 (1 : Int32))))
theorem rL_law_1949 {G : jG} {l : Launch} {d : Nat} (htr : l.stackTraces = false) (hdd : 107 ≤ d) {Q : Int32 → List jH → (Nat → Nat → Int32) → (Nat → Nat → Option Nat) → Prop} {K23 : List jH → (Nat → Nat → Int32) → (Nat → Nat → Option Nat) → Nat → Nat → Nat → Nat → Nat → Int32 → Prop} (hK23 : ∀ (sh : List jH) (V : Nat → Nat → Int32) (R : Nat → Nat → Option Nat) (c : Nat) (n : Nat) (x1 : Nat) (x2 : Nat) (x3 : Nat) (x4 : Int32), K23 sh V R c n x1 x2 x3 x4 → J G l ML_law d c n 23 [(0, .ref 69), (1, .ref x1), (2, .ref x2), (3, .ref x3), (4, .int x4)] [] (mk sh V R) (jSr Q) jNo) {sh : List jH} {V : Nat → Nat → Int32} {R : Nat → Nat → Option Nat} {c : Nat} {n : Nat} {x1 : Nat} {x2 : Nat} {x3 : Nat} {x4 : Int32} (hw : wL_law_1949 G Q K23 sh V R c n x1 x2 x3 x4) : J G l ML_law d c n 1949 [(0, .ref 69), (1, .ref x1), (2, .ref x2), (3, .ref x3), (4, .int x4)] [] (mk sh V R) (jSr Q) jNo := by
  unfold wL_law_1949 at hw
  refine J.aload_n 1 dL_law_1949 rfl ?_
  refine J.aload_n 0 dL_law_1950 rfl ?_
  refine J.iload 4 dL_law_1951 rfl ?_
  refine J.iconst (v := (1 : Int32)) dL_law_1953 (by decide) ?_
  refine J.iadd dL_law_1954 ?_
  obtain ⟨h1955, hw⟩ := hw
  refine J.sld dL_law_1955 h1955 ?_
  refine J.if_eq 1963 dL_law_1956 (by decide) ⟨fun c1956 => ?_, fun c1956 => ?_⟩
  · obtain ⟨hw, -⟩ := hw
    specialize hw c1956
    refine J.iconst (v := (0 : Int32)) dL_law_1963 (by decide) ?_
    exact (rL_law_1964 htr hdd hK23 hw)
  · obtain ⟨-, hw⟩ := hw
    specialize hw c1956
    refine J.iconst (v := (1 : Int32)) dL_law_1959 (by decide) ?_
    refine J.goto 1964 dL_law_1960 (by decide) ?_
    exact (rL_law_1964 htr hdd hK23 hw)
def wL_law_2021 (G : jG) (Q : Int32 → List jH → (Nat → Nat → Int32) → (Nat → Nat → Option Nat) → Prop) (K23 : List jH → (Nat → Nat → Int32) → (Nat → Nat → Option Nat) → Nat → Nat → Nat → Nat → Nat → Int32 → Prop) (sh : List jH) (V : Nat → Nat → Int32) (R : Nat → Nat → Option Nat) (c : Nat) (n : Nat) (x1 : Nat) (x2 : Nat) (x3 : Nat) (x4 : Int32) : Prop :=
  (jReg shX1 sh x1 ∧ (∃ c12023 n12023 c22023 n22023 : Nat, c12023 + c22023 ≤ c ∧ n12023 + n22023 ≤ n ∧ (wX0_send x1 sh V R c12023 n12023 x3 (fun r2023 sh2023 V2023 R2023 => (jReg shX6 sh2023 x2 ∧ (wX6_send x2 V2023 (fun r2029 V2029 => (jReg shX6 sh2023 x2 ∧ (wX6_thrown x2 V2029 (fun r2035 => ((r2035 = r2023 → ((¬ r2023 = 0 → (∀ y3184 : Int32, y3184 = x4 + (6 : Int32) → K23 sh2023 V2029 R2023 c22023 n22023 x1 x2 x3 y3184)) ∧ (r2023 = 0 → (∃ f2052 : Nat → Int64, sh2023[x3]? = some (jF (.inl (3, 1, .inr (.inl f2052)))) ∧ jn ≤ x3 ∧ (((lg_cmp (f2052 0) r2029.toInt64) = 0 → (∀ y3184 : Int32, y3184 = x4 + (6 : Int32) → K23 sh2023 V2029 R2023 c22023 n22023 x1 x2 x3 y3184)) ∧ (¬ (lg_cmp (f2052 0) r2029.toInt64) = 0 → Q (0 : Int32) sh2023 V2029 R2023)))))) ∧ (¬ r2035 = r2023 → Q (0 : Int32) sh2023 V2029 R2023))))))))))))
theorem rL_law_2021 {G : jG} {l : Launch} {d : Nat} (htr : l.stackTraces = false) (hdd : 107 ≤ d) {Q : Int32 → List jH → (Nat → Nat → Int32) → (Nat → Nat → Option Nat) → Prop} {K23 : List jH → (Nat → Nat → Int32) → (Nat → Nat → Option Nat) → Nat → Nat → Nat → Nat → Nat → Int32 → Prop} (hK23 : ∀ (sh : List jH) (V : Nat → Nat → Int32) (R : Nat → Nat → Option Nat) (c : Nat) (n : Nat) (x1 : Nat) (x2 : Nat) (x3 : Nat) (x4 : Int32), K23 sh V R c n x1 x2 x3 x4 → J G l ML_law d c n 23 [(0, .ref 69), (1, .ref x1), (2, .ref x2), (3, .ref x3), (4, .int x4)] [] (mk sh V R) (jSr Q) jNo) {sh : List jH} {V : Nat → Nat → Int32} {R : Nat → Nat → Option Nat} {c : Nat} {n : Nat} {x1 : Nat} {x2 : Nat} {x3 : Nat} {x4 : Int32} (hw : wL_law_2021 G Q K23 sh V R c n x1 x2 x3 x4) : J G l ML_law d c n 2021 [(0, .ref 69), (1, .ref x1), (2, .ref x2), (3, .ref x3), (4, .int x4)] [] (mk sh V R) (jSr Q) jNo := by
  unfold wL_law_2021 at hw
  refine J.aload_n 1 dL_law_2021 rfl ?_
  refine J.aload_n 3 dL_law_2022 rfl ?_
  obtain ⟨hq2023_x1, hw⟩ := hw
  obtain ⟨c12023, n12023, c22023, n22023, hc2023, hd2023, hw⟩ := hw
  refine uL_251 rfl htr hq2023_x1 dL_law_2023 (by omega) (Nat.le_of_ble_eq_true rfl) hw ⟨hc2023, hd2023⟩ ?_
  clear hw
  intro r2023 sh2023 V2023 R2023 hw
  refine J.istore (lv' := [(5, .int r2023), (0, .ref 69), (1, .ref x1), (2, .ref x2), (3, .ref x3), (4, .int x4)]) dL_law_2026 (by decide) rfl ?_
  refine J.aload_n 3 dL_law_2028 rfl ?_
  obtain ⟨hq2029_x2, hw⟩ := hw
  refine uL_253 rfl htr hq2029_x2 dL_law_2029 (by omega) (Nat.le_of_ble_eq_true rfl) hw ?_
  clear hw
  intro r2029 V2029 hw
  refine J.istore (lv' := [(6, .int r2029), (5, .int r2023), (0, .ref 69), (1, .ref x1), (2, .ref x2), (3, .ref x3), (4, .int x4)]) dL_law_2032 (by decide) rfl ?_
  refine J.aload_n 4 dL_law_2034 rfl ?_
  obtain ⟨hq2035_x2, hw⟩ := hw
  refine uL_159 rfl htr hq2035_x2 dL_law_2035 (by omega) (Nat.le_of_ble_eq_true rfl) hw ?_
  clear hw
  intro r2035 hw
  refine J.iload 1 dL_law_2038 rfl ?_
  refine J.icmp_eq 2045 dL_law_2040 (by decide) ⟨fun c2040 => ?_, fun c2040 => ?_⟩
  · obtain ⟨hw, -⟩ := hw
    specialize hw c2040
    refine J.iload 1 dL_law_2045 rfl ?_
    refine J.if_ne 2062 dL_law_2047 (by decide) ⟨fun c2047 => ?_, fun c2047 => ?_⟩
    · obtain ⟨hw, -⟩ := hw
      specialize hw c2047
      refine J.goto 3184 dL_law_2062 (by decide) ?_
      refine J.iincN 6 (K := (6 : Int32)) (lv' := fun y3184 => [(4, .int y3184), (6, .int r2029), (5, .int r2023), (0, .ref 69), (1, .ref x1), (2, .ref x2), (3, .ref x3)]) dL_law_3184 rfl (by decide) (by decide) (fun _ => rfl) hw ?_
      clear hw
      intro y3184 hw
      refine J.goto 23 dL_law_3187 (by decide) ?_
      exact J.pick [3, 4, 5, 6, 0] rfl (hK23 _ _ _ _ _ _ _ _ _ hw)
    · obtain ⟨-, hw⟩ := hw
      specialize hw c2047
      refine J.aload_n 5 dL_law_2050 rfl ?_
      refine J.iconst (v := (0 : Int32)) dL_law_2051 (by decide) ?_
      obtain ⟨f2052, hk2052, hn2052, hw⟩ := hw
      refine JV.lald0 dL_law_2052 hn2052 hk2052 ?_
      refine J.iload 0 dL_law_2053 rfl ?_
      refine J.i2l dL_law_2055 ?_
      refine J.lcmp dL_law_2056 ?_
      refine J.if_eq 2062 dL_law_2057 (by decide) ⟨fun c2057 => ?_, fun c2057 => ?_⟩
      · obtain ⟨hw, -⟩ := hw
        specialize hw c2057
        refine J.goto 3184 dL_law_2062 (by decide) ?_
        refine J.iincN 6 (K := (6 : Int32)) (lv' := fun y3184 => [(4, .int y3184), (6, .int r2029), (5, .int r2023), (0, .ref 69), (1, .ref x1), (2, .ref x2), (3, .ref x3)]) dL_law_3184 rfl (by decide) (by decide) (fun _ => rfl) hw ?_
        clear hw
        intro y3184 hw
        refine J.goto 23 dL_law_3187 (by decide) ?_
        exact J.pick [3, 4, 5, 6, 0] rfl (hK23 _ _ _ _ _ _ _ _ _ hw)
      · obtain ⟨-, hw⟩ := hw
        specialize hw c2057
        refine J.iconst (v := (0 : Int32)) dL_law_2060 (by decide) ?_
        exact J.zret rfl rfl dL_law_2061 ⟨_, _, _, rfl, _, rfl, hw⟩
  · obtain ⟨-, hw⟩ := hw
    specialize hw c2040
    refine J.iconst (v := (0 : Int32)) dL_law_2043 (by decide) ?_
    exact J.zret rfl rfl dL_law_2044 ⟨_, _, _, rfl, _, rfl, hw⟩
def wL_law_2101 (G : jG) (Q : Int32 → List jH → (Nat → Nat → Int32) → (Nat → Nat → Option Nat) → Prop) (K23 : List jH → (Nat → Nat → Int32) → (Nat → Nat → Option Nat) → Nat → Nat → Nat → Nat → Nat → Int32 → Prop) (sh : List jH) (V : Nat → Nat → Int32) (R : Nat → Nat → Option Nat) (c : Nat) (n : Nat) (x1 : Nat) (x2 : Nat) (x3 : Nat) (x4 : Int32) (x5 : Int32) (s0 : Nat) (s1 : Int32) : Prop :=
  (jReg shX6 sh s0 ∧ (wX6_hand s0 V s1 (fun r2101 V2101 => (jReg shX6 sh x2 ∧ (wX6_thrown x2 V2101 (fun r2107 => ((r2107 = x5 → ((¬ x5 = 0 → (∀ y3184 : Int32, y3184 = x4 + (6 : Int32) → K23 sh V2101 R c n x1 x2 x3 y3184)) ∧ (x5 = 0 → (∃ f2124 : Nat → Int64, sh[x3]? = some (jF (.inl (3, 1, .inr (.inl f2124)))) ∧ jn ≤ x3 ∧ (((lg_cmp (f2124 0) r2101.toInt64) = 0 → (∀ y3184 : Int32, y3184 = x4 + (6 : Int32) → K23 sh V2101 R c n x1 x2 x3 y3184)) ∧ (¬ (lg_cmp (f2124 0) r2101.toInt64) = 0 → Q (0 : Int32) sh V2101 R)))))) ∧ (¬ r2107 = x5 → Q (0 : Int32) sh V2101 R))))))))
theorem rL_law_2101 {G : jG} {l : Launch} {d : Nat} (htr : l.stackTraces = false) (hdd : 107 ≤ d) {Q : Int32 → List jH → (Nat → Nat → Int32) → (Nat → Nat → Option Nat) → Prop} {K23 : List jH → (Nat → Nat → Int32) → (Nat → Nat → Option Nat) → Nat → Nat → Nat → Nat → Nat → Int32 → Prop} (hK23 : ∀ (sh : List jH) (V : Nat → Nat → Int32) (R : Nat → Nat → Option Nat) (c : Nat) (n : Nat) (x1 : Nat) (x2 : Nat) (x3 : Nat) (x4 : Int32), K23 sh V R c n x1 x2 x3 x4 → J G l ML_law d c n 23 [(0, .ref 69), (1, .ref x1), (2, .ref x2), (3, .ref x3), (4, .int x4)] [] (mk sh V R) (jSr Q) jNo) {sh : List jH} {V : Nat → Nat → Int32} {R : Nat → Nat → Option Nat} {c : Nat} {n : Nat} {x1 : Nat} {x2 : Nat} {x3 : Nat} {x4 : Int32} {x5 : Int32} {s0 : Nat} {s1 : Int32} (hw : wL_law_2101 G Q K23 sh V R c n x1 x2 x3 x4 x5 s0 s1) : J G l ML_law d c n 2101 [(0, .ref 69), (1, .ref x1), (2, .ref x2), (3, .ref x3), (4, .int x4), (5, .int x5)] [.int s1, .ref s0] (mk sh V R) (jSr Q) jNo := by
  unfold wL_law_2101 at hw
  obtain ⟨hq2101_s0, hw⟩ := hw
  refine uL_256 rfl htr hq2101_s0 dL_law_2101 (by omega) (Nat.le_of_ble_eq_true rfl) hw ?_
  clear hw
  intro r2101 V2101 hw
  refine J.istore (lv' := [(6, .int r2101), (0, .ref 69), (1, .ref x1), (2, .ref x2), (3, .ref x3), (4, .int x4), (5, .int x5)]) dL_law_2104 (by decide) rfl ?_
  refine J.aload_n 3 dL_law_2106 rfl ?_
  obtain ⟨hq2107_x2, hw⟩ := hw
  refine uL_159 rfl htr hq2107_x2 dL_law_2107 (by omega) (Nat.le_of_ble_eq_true rfl) hw ?_
  clear hw
  intro r2107 hw
  refine J.iload 6 dL_law_2110 rfl ?_
  refine J.icmp_eq 2117 dL_law_2112 (by decide) ⟨fun c2112 => ?_, fun c2112 => ?_⟩
  · obtain ⟨hw, -⟩ := hw
    specialize hw c2112
    refine J.iload 6 dL_law_2117 rfl ?_
    refine J.if_ne 2134 dL_law_2119 (by decide) ⟨fun c2119 => ?_, fun c2119 => ?_⟩
    · obtain ⟨hw, -⟩ := hw
      specialize hw c2119
      refine J.goto 3184 dL_law_2134 (by decide) ?_
      refine J.iincN 5 (K := (6 : Int32)) (lv' := fun y3184 => [(4, .int y3184), (6, .int r2101), (0, .ref 69), (1, .ref x1), (2, .ref x2), (3, .ref x3), (5, .int x5)]) dL_law_3184 rfl (by decide) (by decide) (fun _ => rfl) hw ?_
      clear hw
      intro y3184 hw
      refine J.goto 23 dL_law_3187 (by decide) ?_
      exact J.pick [2, 3, 4, 5, 0] rfl (hK23 _ _ _ _ _ _ _ _ _ hw)
    · obtain ⟨-, hw⟩ := hw
      specialize hw c2119
      refine J.aload_n 4 dL_law_2122 rfl ?_
      refine J.iconst (v := (0 : Int32)) dL_law_2123 (by decide) ?_
      obtain ⟨f2124, hk2124, hn2124, hw⟩ := hw
      refine JV.lald0 dL_law_2124 hn2124 hk2124 ?_
      refine J.iload 0 dL_law_2125 rfl ?_
      refine J.i2l dL_law_2127 ?_
      refine J.lcmp dL_law_2128 ?_
      refine J.if_eq 2134 dL_law_2129 (by decide) ⟨fun c2129 => ?_, fun c2129 => ?_⟩
      · obtain ⟨hw, -⟩ := hw
        specialize hw c2129
        refine J.goto 3184 dL_law_2134 (by decide) ?_
        refine J.iincN 5 (K := (6 : Int32)) (lv' := fun y3184 => [(4, .int y3184), (6, .int r2101), (0, .ref 69), (1, .ref x1), (2, .ref x2), (3, .ref x3), (5, .int x5)]) dL_law_3184 rfl (by decide) (by decide) (fun _ => rfl) hw ?_
        clear hw
        intro y3184 hw
        refine J.goto 23 dL_law_3187 (by decide) ?_
        exact J.pick [2, 3, 4, 5, 0] rfl (hK23 _ _ _ _ _ _ _ _ _ hw)
      · obtain ⟨-, hw⟩ := hw
        specialize hw c2129
        refine J.iconst (v := (0 : Int32)) dL_law_2132 (by decide) ?_
        exact J.zret rfl rfl dL_law_2133 ⟨_, _, _, rfl, _, rfl, hw⟩
  · obtain ⟨-, hw⟩ := hw
    specialize hw c2112
    refine J.iconst (v := (0 : Int32)) dL_law_2115 (by decide) ?_
    exact J.zret rfl rfl dL_law_2116 ⟨_, _, _, rfl, _, rfl, hw⟩
def wL_law_2080 (G : jG) (Q : Int32 → List jH → (Nat → Nat → Int32) → (Nat → Nat → Option Nat) → Prop) (K23 : List jH → (Nat → Nat → Int32) → (Nat → Nat → Option Nat) → Nat → Nat → Nat → Nat → Nat → Int32 → Prop) (sh : List jH) (V : Nat → Nat → Int32) (R : Nat → Nat → Option Nat) (c : Nat) (n : Nat) (x1 : Nat) (x2 : Nat) (x3 : Nat) (x4 : Int32) (s0 : Nat) (s1 : Int32) : Prop :=
  (jReg shX1 sh s0 ∧ (∃ c12081 n12081 c22081 n22081 : Nat, c12081 + c22081 ≤ c ∧ n12081 + n22081 ≤ n ∧ (wX0_hand s0 sh V R c12081 n12081 s1 x3 (fun r2081 sh2081 V2081 R2081 => (vp_in (x4 + (1 : Int32)) (jScN G) ∧ (((jScF G (x4 + (1 : Int32)).toNatClampNeg) = 0 → wL_law_2101 G Q K23 sh2081 V2081 R2081 c22081 n22081 x1 x2 x3 x4 r2081 x2 (0 : Int32)) ∧ (¬ (jScF G (x4 + (1 : Int32)).toNatClampNeg) = 0 → wL_law_2101 G Q K23 sh2081 V2081 R2081 c22081 n22081 x1 x2 x3 x4 r2081 x2 (1 : Int32))))))))
theorem rL_law_2080 {G : jG} {l : Launch} {d : Nat} (htr : l.stackTraces = false) (hdd : 107 ≤ d) {Q : Int32 → List jH → (Nat → Nat → Int32) → (Nat → Nat → Option Nat) → Prop} {K23 : List jH → (Nat → Nat → Int32) → (Nat → Nat → Option Nat) → Nat → Nat → Nat → Nat → Nat → Int32 → Prop} (hK23 : ∀ (sh : List jH) (V : Nat → Nat → Int32) (R : Nat → Nat → Option Nat) (c : Nat) (n : Nat) (x1 : Nat) (x2 : Nat) (x3 : Nat) (x4 : Int32), K23 sh V R c n x1 x2 x3 x4 → J G l ML_law d c n 23 [(0, .ref 69), (1, .ref x1), (2, .ref x2), (3, .ref x3), (4, .int x4)] [] (mk sh V R) (jSr Q) jNo) {sh : List jH} {V : Nat → Nat → Int32} {R : Nat → Nat → Option Nat} {c : Nat} {n : Nat} {x1 : Nat} {x2 : Nat} {x3 : Nat} {x4 : Int32} {s0 : Nat} {s1 : Int32} (hw : wL_law_2080 G Q K23 sh V R c n x1 x2 x3 x4 s0 s1) : J G l ML_law d c n 2080 [(0, .ref 69), (1, .ref x1), (2, .ref x2), (3, .ref x3), (4, .int x4)] [.int s1, .ref s0] (mk sh V R) (jSr Q) jNo := by
  unfold wL_law_2080 at hw
  refine J.aload_n 3 dL_law_2080 rfl ?_
  obtain ⟨hq2081_s0, hw⟩ := hw
  obtain ⟨c12081, n12081, c22081, n22081, hc2081, hd2081, hw⟩ := hw
  refine uL_254 rfl htr hq2081_s0 dL_law_2081 (by omega) (Nat.le_of_ble_eq_true rfl) hw ⟨hc2081, hd2081⟩ ?_
  clear hw
  intro r2081 sh2081 V2081 R2081 hw
  refine J.istore (lv' := [(5, .int r2081), (0, .ref 69), (1, .ref x1), (2, .ref x2), (3, .ref x3), (4, .int x4)]) dL_law_2084 (by decide) rfl ?_
  refine J.aload_n 3 dL_law_2086 rfl ?_
  refine J.aload_n 1 dL_law_2087 rfl ?_
  refine J.iload 5 dL_law_2088 rfl ?_
  refine J.iconst (v := (1 : Int32)) dL_law_2090 (by decide) ?_
  refine J.iadd dL_law_2091 ?_
  obtain ⟨h2092, hw⟩ := hw
  refine J.sld dL_law_2092 h2092 ?_
  refine J.if_eq 2100 dL_law_2093 (by decide) ⟨fun c2093 => ?_, fun c2093 => ?_⟩
  · obtain ⟨hw, -⟩ := hw
    specialize hw c2093
    refine J.iconst (v := (0 : Int32)) dL_law_2100 (by decide) ?_
    exact J.pick [1, 2, 3, 4, 5, 0] rfl (rL_law_2101 htr hdd hK23 hw)
  · obtain ⟨-, hw⟩ := hw
    specialize hw c2093
    refine J.iconst (v := (1 : Int32)) dL_law_2096 (by decide) ?_
    refine J.goto 2101 dL_law_2097 (by decide) ?_
    exact J.pick [1, 2, 3, 4, 5, 0] rfl (rL_law_2101 htr hdd hK23 hw)
def wL_law_2065 (G : jG) (Q : Int32 → List jH → (Nat → Nat → Int32) → (Nat → Nat → Option Nat) → Prop) (K23 : List jH → (Nat → Nat → Int32) → (Nat → Nat → Option Nat) → Nat → Nat → Nat → Nat → Nat → Int32 → Prop) (sh : List jH) (V : Nat → Nat → Int32) (R : Nat → Nat → Option Nat) (c : Nat) (n : Nat) (x1 : Nat) (x2 : Nat) (x3 : Nat) (x4 : Int32) : Prop :=
  (vp_in (x4 + (1 : Int32)) (jScN G) ∧ (((jScF G (x4 + (1 : Int32)).toNatClampNeg) = 0 → wL_law_2080 G Q K23 sh V R c n x1 x2 x3 x4 x1 (0 : Int32)) ∧ (¬ (jScF G (x4 + (1 : Int32)).toNatClampNeg) = 0 → wL_law_2080 G Q K23 sh V R c n x1 x2 x3 x4 x1 (1 : Int32))))
theorem rL_law_2065 {G : jG} {l : Launch} {d : Nat} (htr : l.stackTraces = false) (hdd : 107 ≤ d) {Q : Int32 → List jH → (Nat → Nat → Int32) → (Nat → Nat → Option Nat) → Prop} {K23 : List jH → (Nat → Nat → Int32) → (Nat → Nat → Option Nat) → Nat → Nat → Nat → Nat → Nat → Int32 → Prop} (hK23 : ∀ (sh : List jH) (V : Nat → Nat → Int32) (R : Nat → Nat → Option Nat) (c : Nat) (n : Nat) (x1 : Nat) (x2 : Nat) (x3 : Nat) (x4 : Int32), K23 sh V R c n x1 x2 x3 x4 → J G l ML_law d c n 23 [(0, .ref 69), (1, .ref x1), (2, .ref x2), (3, .ref x3), (4, .int x4)] [] (mk sh V R) (jSr Q) jNo) {sh : List jH} {V : Nat → Nat → Int32} {R : Nat → Nat → Option Nat} {c : Nat} {n : Nat} {x1 : Nat} {x2 : Nat} {x3 : Nat} {x4 : Int32} (hw : wL_law_2065 G Q K23 sh V R c n x1 x2 x3 x4) : J G l ML_law d c n 2065 [(0, .ref 69), (1, .ref x1), (2, .ref x2), (3, .ref x3), (4, .int x4)] [] (mk sh V R) (jSr Q) jNo := by
  unfold wL_law_2065 at hw
  refine J.aload_n 1 dL_law_2065 rfl ?_
  refine J.aload_n 0 dL_law_2066 rfl ?_
  refine J.iload 4 dL_law_2067 rfl ?_
  refine J.iconst (v := (1 : Int32)) dL_law_2069 (by decide) ?_
  refine J.iadd dL_law_2070 ?_
  obtain ⟨h2071, hw⟩ := hw
  refine J.sld dL_law_2071 h2071 ?_
  refine J.if_eq 2079 dL_law_2072 (by decide) ⟨fun c2072 => ?_, fun c2072 => ?_⟩
  · obtain ⟨hw, -⟩ := hw
    specialize hw c2072
    refine J.iconst (v := (0 : Int32)) dL_law_2079 (by decide) ?_
    exact (rL_law_2080 htr hdd hK23 hw)
  · obtain ⟨-, hw⟩ := hw
    specialize hw c2072
    refine J.iconst (v := (1 : Int32)) dL_law_2075 (by decide) ?_
    refine J.goto 2080 dL_law_2076 (by decide) ?_
    exact (rL_law_2080 htr hdd hK23 hw)
def wL_law_2137 (G : jG) (Q : Int32 → List jH → (Nat → Nat → Int32) → (Nat → Nat → Option Nat) → Prop) (K23 : List jH → (Nat → Nat → Int32) → (Nat → Nat → Option Nat) → Nat → Nat → Nat → Nat → Nat → Int32 → Prop) (sh : List jH) (V : Nat → Nat → Int32) (R : Nat → Nat → Option Nat) (c : Nat) (n : Nat) (x1 : Nat) (x2 : Nat) (x3 : Nat) (x4 : Int32) : Prop :=
  (jReg shX1 sh x1 ∧ (wX1_dry x1 sh R V (fun r2138 V2138 => (jReg shX6 sh x2 ∧ (wX6_dry x2 sh R V2138 (fun r2142 V2142 => ((r2138 = r2142 → (∀ y3184 : Int32, y3184 = x4 + (6 : Int32) → K23 sh V2142 R c n x1 x2 x3 y3184)) ∧ (¬ r2138 = r2142 → Q (0 : Int32) sh V2142 R))))))))
theorem rL_law_2137 {G : jG} {l : Launch} {d : Nat} (htr : l.stackTraces = false) (hdd : 107 ≤ d) {Q : Int32 → List jH → (Nat → Nat → Int32) → (Nat → Nat → Option Nat) → Prop} {K23 : List jH → (Nat → Nat → Int32) → (Nat → Nat → Option Nat) → Nat → Nat → Nat → Nat → Nat → Int32 → Prop} (hK23 : ∀ (sh : List jH) (V : Nat → Nat → Int32) (R : Nat → Nat → Option Nat) (c : Nat) (n : Nat) (x1 : Nat) (x2 : Nat) (x3 : Nat) (x4 : Int32), K23 sh V R c n x1 x2 x3 x4 → J G l ML_law d c n 23 [(0, .ref 69), (1, .ref x1), (2, .ref x2), (3, .ref x3), (4, .int x4)] [] (mk sh V R) (jSr Q) jNo) {sh : List jH} {V : Nat → Nat → Int32} {R : Nat → Nat → Option Nat} {c : Nat} {n : Nat} {x1 : Nat} {x2 : Nat} {x3 : Nat} {x4 : Int32} (hw : wL_law_2137 G Q K23 sh V R c n x1 x2 x3 x4) : J G l ML_law d c n 2137 [(0, .ref 69), (1, .ref x1), (2, .ref x2), (3, .ref x3), (4, .int x4)] [] (mk sh V R) (jSr Q) jNo := by
  unfold wL_law_2137 at hw
  refine J.aload_n 1 dL_law_2137 rfl ?_
  obtain ⟨hq2138_x1, hw⟩ := hw
  refine uL_257 rfl htr hq2138_x1 dL_law_2138 (by omega) (Nat.le_of_ble_eq_true rfl) hw ?_
  clear hw
  intro r2138 V2138 hw
  refine J.aload_n 2 dL_law_2141 rfl ?_
  obtain ⟨hq2142_x2, hw⟩ := hw
  refine uL_260 rfl htr hq2142_x2 dL_law_2142 (by omega) (Nat.le_of_ble_eq_true rfl) hw ?_
  clear hw
  intro r2142 V2142 hw
  refine J.icmp_eq 3184 dL_law_2145 (by decide) ⟨fun c2145 => ?_, fun c2145 => ?_⟩
  · obtain ⟨hw, -⟩ := hw
    specialize hw c2145
    refine J.iincN 4 (K := (6 : Int32)) (lv' := fun y3184 => [(4, .int y3184), (0, .ref 69), (1, .ref x1), (2, .ref x2), (3, .ref x3)]) dL_law_3184 rfl (by decide) (by decide) (fun _ => rfl) hw ?_
    clear hw
    intro y3184 hw
    refine J.goto 23 dL_law_3187 (by decide) ?_
    exact J.pick [1, 2, 3, 4, 0] rfl (hK23 _ _ _ _ _ _ _ _ _ hw)
  · obtain ⟨-, hw⟩ := hw
    specialize hw c2145
    refine J.iconst (v := (0 : Int32)) dL_law_2148 (by decide) ?_
    exact J.zret rfl rfl dL_law_2149 ⟨_, _, _, rfl, _, rfl, hw⟩
def wL_law_2150 (G : jG) (Q : Int32 → List jH → (Nat → Nat → Int32) → (Nat → Nat → Option Nat) → Prop) (K23 : List jH → (Nat → Nat → Int32) → (Nat → Nat → Option Nat) → Nat → Nat → Nat → Nat → Nat → Int32 → Prop) (sh : List jH) (V : Nat → Nat → Int32) (R : Nat → Nat → Option Nat) (c : Nat) (n : Nat) (x1 : Nat) (x2 : Nat) (x3 : Nat) (x4 : Int32) : Prop :=
  (vp_in (x4 + (1 : Int32)) (jScN G) ∧ (vp_in (x4 + (2 : Int32)) (jScN G) ∧ (jReg shX1 sh x1 ∧ (∃ c12164 n12164 c22164 n22164 : Nat, c12164 + c22164 ≤ c ∧ n12164 + n22164 ≤ n ∧ (wX0_saved x1 sh V R c12164 n12164 (jScF G (x4 + (1 : Int32)).toNatClampNeg) (jScF G (x4 + (2 : Int32)).toNatClampNeg) x3 (fun r2164 sh2164 V2164 R2164 => (vp_in (x4 + (1 : Int32)) (jScN G) ∧ (vp_in (x4 + (2 : Int32)) (jScN G) ∧ (jReg shX6 sh2164 x2 ∧ (wX6_saved x2 sh2164 R2164 V2164 (jScF G (x4 + (1 : Int32)).toNatClampNeg) (jScF G (x4 + (2 : Int32)).toNatClampNeg) (fun r2182 V2182 => (jReg shX6 sh2164 x2 ∧ (wX6_thrown x2 V2182 (fun r2188 => ((r2188 = r2164 → ((¬ r2164 = 0 → (∀ y3184 : Int32, y3184 = x4 + (6 : Int32) → K23 sh2164 V2182 R2164 c22164 n22164 x1 x2 x3 y3184)) ∧ (r2164 = 0 → (∃ f2205 : Nat → Int64, sh2164[x3]? = some (jF (.inl (3, 1, .inr (.inl f2205)))) ∧ jn ≤ x3 ∧ (((lg_cmp (f2205 0) r2182.toInt64) = 0 → (∀ y3184 : Int32, y3184 = x4 + (6 : Int32) → K23 sh2164 V2182 R2164 c22164 n22164 x1 x2 x3 y3184)) ∧ (¬ (lg_cmp (f2205 0) r2182.toInt64) = 0 → Q (0 : Int32) sh2164 V2182 R2164)))))) ∧ (¬ r2188 = r2164 → Q (0 : Int32) sh2164 V2182 R2164))))))))))))))))
theorem rL_law_2150 {G : jG} {l : Launch} {d : Nat} (htr : l.stackTraces = false) (hdd : 107 ≤ d) {Q : Int32 → List jH → (Nat → Nat → Int32) → (Nat → Nat → Option Nat) → Prop} {K23 : List jH → (Nat → Nat → Int32) → (Nat → Nat → Option Nat) → Nat → Nat → Nat → Nat → Nat → Int32 → Prop} (hK23 : ∀ (sh : List jH) (V : Nat → Nat → Int32) (R : Nat → Nat → Option Nat) (c : Nat) (n : Nat) (x1 : Nat) (x2 : Nat) (x3 : Nat) (x4 : Int32), K23 sh V R c n x1 x2 x3 x4 → J G l ML_law d c n 23 [(0, .ref 69), (1, .ref x1), (2, .ref x2), (3, .ref x3), (4, .int x4)] [] (mk sh V R) (jSr Q) jNo) {sh : List jH} {V : Nat → Nat → Int32} {R : Nat → Nat → Option Nat} {c : Nat} {n : Nat} {x1 : Nat} {x2 : Nat} {x3 : Nat} {x4 : Int32} (hw : wL_law_2150 G Q K23 sh V R c n x1 x2 x3 x4) : J G l ML_law d c n 2150 [(0, .ref 69), (1, .ref x1), (2, .ref x2), (3, .ref x3), (4, .int x4)] [] (mk sh V R) (jSr Q) jNo := by
  unfold wL_law_2150 at hw
  refine J.aload_n 1 dL_law_2150 rfl ?_
  refine J.aload_n 0 dL_law_2151 rfl ?_
  refine J.iload 4 dL_law_2152 rfl ?_
  refine J.iconst (v := (1 : Int32)) dL_law_2154 (by decide) ?_
  refine J.iadd dL_law_2155 ?_
  obtain ⟨h2156, hw⟩ := hw
  refine J.sld dL_law_2156 h2156 ?_
  refine J.aload_n 0 dL_law_2157 rfl ?_
  refine J.iload 4 dL_law_2158 rfl ?_
  refine J.iconst (v := (2 : Int32)) dL_law_2160 (by decide) ?_
  refine J.iadd dL_law_2161 ?_
  obtain ⟨h2162, hw⟩ := hw
  refine J.sld dL_law_2162 h2162 ?_
  refine J.aload_n 3 dL_law_2163 rfl ?_
  obtain ⟨hq2164_x1, hw⟩ := hw
  obtain ⟨c12164, n12164, c22164, n22164, hc2164, hd2164, hw⟩ := hw
  refine uL_261 rfl htr hq2164_x1 dL_law_2164 (by omega) (Nat.le_of_ble_eq_true rfl) hw ⟨hc2164, hd2164⟩ ?_
  clear hw
  intro r2164 sh2164 V2164 R2164 hw
  refine J.istore (lv' := [(5, .int r2164), (0, .ref 69), (1, .ref x1), (2, .ref x2), (3, .ref x3), (4, .int x4)]) dL_law_2167 (by decide) rfl ?_
  refine J.aload_n 3 dL_law_2169 rfl ?_
  refine J.aload_n 1 dL_law_2170 rfl ?_
  refine J.iload 5 dL_law_2171 rfl ?_
  refine J.iconst (v := (1 : Int32)) dL_law_2173 (by decide) ?_
  refine J.iadd dL_law_2174 ?_
  obtain ⟨h2175, hw⟩ := hw
  refine J.sld dL_law_2175 h2175 ?_
  refine J.aload_n 1 dL_law_2176 rfl ?_
  refine J.iload 5 dL_law_2177 rfl ?_
  refine J.iconst (v := (2 : Int32)) dL_law_2179 (by decide) ?_
  refine J.iadd dL_law_2180 ?_
  obtain ⟨h2181, hw⟩ := hw
  refine J.sld dL_law_2181 h2181 ?_
  obtain ⟨hq2182_x2, hw⟩ := hw
  refine uL_263 rfl htr hq2182_x2 dL_law_2182 (by omega) (Nat.le_of_ble_eq_true rfl) hw ?_
  clear hw
  intro r2182 V2182 hw
  refine J.istore (lv' := [(6, .int r2182), (5, .int r2164), (0, .ref 69), (1, .ref x1), (2, .ref x2), (3, .ref x3), (4, .int x4)]) dL_law_2185 (by decide) rfl ?_
  refine J.aload_n 4 dL_law_2187 rfl ?_
  obtain ⟨hq2188_x2, hw⟩ := hw
  refine uL_159 rfl htr hq2188_x2 dL_law_2188 (by omega) (Nat.le_of_ble_eq_true rfl) hw ?_
  clear hw
  intro r2188 hw
  refine J.iload 1 dL_law_2191 rfl ?_
  refine J.icmp_eq 2198 dL_law_2193 (by decide) ⟨fun c2193 => ?_, fun c2193 => ?_⟩
  · obtain ⟨hw, -⟩ := hw
    specialize hw c2193
    refine J.iload 1 dL_law_2198 rfl ?_
    refine J.if_ne 2215 dL_law_2200 (by decide) ⟨fun c2200 => ?_, fun c2200 => ?_⟩
    · obtain ⟨hw, -⟩ := hw
      specialize hw c2200
      refine J.goto 3184 dL_law_2215 (by decide) ?_
      refine J.iincN 6 (K := (6 : Int32)) (lv' := fun y3184 => [(4, .int y3184), (6, .int r2182), (5, .int r2164), (0, .ref 69), (1, .ref x1), (2, .ref x2), (3, .ref x3)]) dL_law_3184 rfl (by decide) (by decide) (fun _ => rfl) hw ?_
      clear hw
      intro y3184 hw
      refine J.goto 23 dL_law_3187 (by decide) ?_
      exact J.pick [3, 4, 5, 6, 0] rfl (hK23 _ _ _ _ _ _ _ _ _ hw)
    · obtain ⟨-, hw⟩ := hw
      specialize hw c2200
      refine J.aload_n 5 dL_law_2203 rfl ?_
      refine J.iconst (v := (0 : Int32)) dL_law_2204 (by decide) ?_
      obtain ⟨f2205, hk2205, hn2205, hw⟩ := hw
      refine JV.lald0 dL_law_2205 hn2205 hk2205 ?_
      refine J.iload 0 dL_law_2206 rfl ?_
      refine J.i2l dL_law_2208 ?_
      refine J.lcmp dL_law_2209 ?_
      refine J.if_eq 2215 dL_law_2210 (by decide) ⟨fun c2210 => ?_, fun c2210 => ?_⟩
      · obtain ⟨hw, -⟩ := hw
        specialize hw c2210
        refine J.goto 3184 dL_law_2215 (by decide) ?_
        refine J.iincN 6 (K := (6 : Int32)) (lv' := fun y3184 => [(4, .int y3184), (6, .int r2182), (5, .int r2164), (0, .ref 69), (1, .ref x1), (2, .ref x2), (3, .ref x3)]) dL_law_3184 rfl (by decide) (by decide) (fun _ => rfl) hw ?_
        clear hw
        intro y3184 hw
        refine J.goto 23 dL_law_3187 (by decide) ?_
        exact J.pick [3, 4, 5, 6, 0] rfl (hK23 _ _ _ _ _ _ _ _ _ hw)
      · obtain ⟨-, hw⟩ := hw
        specialize hw c2210
        refine J.iconst (v := (0 : Int32)) dL_law_2213 (by decide) ?_
        exact J.zret rfl rfl dL_law_2214 ⟨_, _, _, rfl, _, rfl, hw⟩
  · obtain ⟨-, hw⟩ := hw
    specialize hw c2193
    refine J.iconst (v := (0 : Int32)) dL_law_2196 (by decide) ?_
    exact J.zret rfl rfl dL_law_2197 ⟨_, _, _, rfl, _, rfl, hw⟩
def wL_law_2218 (G : jG) (Q : Int32 → List jH → (Nat → Nat → Int32) → (Nat → Nat → Option Nat) → Prop) (K23 : List jH → (Nat → Nat → Int32) → (Nat → Nat → Option Nat) → Nat → Nat → Nat → Nat → Nat → Int32 → Prop) (sh : List jH) (V : Nat → Nat → Int32) (R : Nat → Nat → Option Nat) (c : Nat) (n : Nat) (x1 : Nat) (x2 : Nat) (x3 : Nat) (x4 : Int32) : Prop :=
  (vp_in (x4 + (1 : Int32)) (jScN G) ∧ (jReg shX1 sh x1 ∧ (∃ c12226 n12226 c22226 n22226 : Nat, c12226 + c22226 ≤ c ∧ n12226 + n22226 ≤ n ∧ (wX0_lend x1 sh V R c12226 n12226 (jScF G (x4 + (1 : Int32)).toNatClampNeg) x3 (fun r2226 sh2226 V2226 R2226 => (vp_in (x4 + (1 : Int32)) (jScN G) ∧ (jReg shX6 sh2226 x2 ∧ (wX6_lend x2 V2226 (jScF G (x4 + (1 : Int32)).toNatClampNeg) (fun r2238 V2238 => (jReg shX6 sh2226 x2 ∧ (wX6_thrown x2 V2238 (fun r2244 => ((r2244 = r2226 → ((¬ r2226 = 0 → (∀ y3184 : Int32, y3184 = x4 + (6 : Int32) → K23 sh2226 V2238 R2226 c22226 n22226 x1 x2 x3 y3184)) ∧ (r2226 = 0 → (∃ f2261 : Nat → Int64, sh2226[x3]? = some (jF (.inl (3, 1, .inr (.inl f2261)))) ∧ jn ≤ x3 ∧ (((lg_cmp (f2261 0) r2238.toInt64) = 0 → (∀ y3184 : Int32, y3184 = x4 + (6 : Int32) → K23 sh2226 V2238 R2226 c22226 n22226 x1 x2 x3 y3184)) ∧ (¬ (lg_cmp (f2261 0) r2238.toInt64) = 0 → Q (0 : Int32) sh2226 V2238 R2226)))))) ∧ (¬ r2244 = r2226 → Q (0 : Int32) sh2226 V2238 R2226))))))))))))))
theorem rL_law_2218 {G : jG} {l : Launch} {d : Nat} (htr : l.stackTraces = false) (hdd : 107 ≤ d) {Q : Int32 → List jH → (Nat → Nat → Int32) → (Nat → Nat → Option Nat) → Prop} {K23 : List jH → (Nat → Nat → Int32) → (Nat → Nat → Option Nat) → Nat → Nat → Nat → Nat → Nat → Int32 → Prop} (hK23 : ∀ (sh : List jH) (V : Nat → Nat → Int32) (R : Nat → Nat → Option Nat) (c : Nat) (n : Nat) (x1 : Nat) (x2 : Nat) (x3 : Nat) (x4 : Int32), K23 sh V R c n x1 x2 x3 x4 → J G l ML_law d c n 23 [(0, .ref 69), (1, .ref x1), (2, .ref x2), (3, .ref x3), (4, .int x4)] [] (mk sh V R) (jSr Q) jNo) {sh : List jH} {V : Nat → Nat → Int32} {R : Nat → Nat → Option Nat} {c : Nat} {n : Nat} {x1 : Nat} {x2 : Nat} {x3 : Nat} {x4 : Int32} (hw : wL_law_2218 G Q K23 sh V R c n x1 x2 x3 x4) : J G l ML_law d c n 2218 [(0, .ref 69), (1, .ref x1), (2, .ref x2), (3, .ref x3), (4, .int x4)] [] (mk sh V R) (jSr Q) jNo := by
  unfold wL_law_2218 at hw
  refine J.aload_n 1 dL_law_2218 rfl ?_
  refine J.aload_n 0 dL_law_2219 rfl ?_
  refine J.iload 4 dL_law_2220 rfl ?_
  refine J.iconst (v := (1 : Int32)) dL_law_2222 (by decide) ?_
  refine J.iadd dL_law_2223 ?_
  obtain ⟨h2224, hw⟩ := hw
  refine J.sld dL_law_2224 h2224 ?_
  refine J.aload_n 3 dL_law_2225 rfl ?_
  obtain ⟨hq2226_x1, hw⟩ := hw
  obtain ⟨c12226, n12226, c22226, n22226, hc2226, hd2226, hw⟩ := hw
  refine uL_264 rfl htr hq2226_x1 dL_law_2226 (by omega) (Nat.le_of_ble_eq_true rfl) hw ⟨hc2226, hd2226⟩ ?_
  clear hw
  intro r2226 sh2226 V2226 R2226 hw
  refine J.istore (lv' := [(5, .int r2226), (0, .ref 69), (1, .ref x1), (2, .ref x2), (3, .ref x3), (4, .int x4)]) dL_law_2229 (by decide) rfl ?_
  refine J.aload_n 3 dL_law_2231 rfl ?_
  refine J.aload_n 1 dL_law_2232 rfl ?_
  refine J.iload 5 dL_law_2233 rfl ?_
  refine J.iconst (v := (1 : Int32)) dL_law_2235 (by decide) ?_
  refine J.iadd dL_law_2236 ?_
  obtain ⟨h2237, hw⟩ := hw
  refine J.sld dL_law_2237 h2237 ?_
  obtain ⟨hq2238_x2, hw⟩ := hw
  refine uL_266 rfl htr hq2238_x2 dL_law_2238 (by omega) (Nat.le_of_ble_eq_true rfl) hw ?_
  clear hw
  intro r2238 V2238 hw
  refine J.istore (lv' := [(6, .int r2238), (5, .int r2226), (0, .ref 69), (1, .ref x1), (2, .ref x2), (3, .ref x3), (4, .int x4)]) dL_law_2241 (by decide) rfl ?_
  refine J.aload_n 4 dL_law_2243 rfl ?_
  obtain ⟨hq2244_x2, hw⟩ := hw
  refine uL_159 rfl htr hq2244_x2 dL_law_2244 (by omega) (Nat.le_of_ble_eq_true rfl) hw ?_
  clear hw
  intro r2244 hw
  refine J.iload 1 dL_law_2247 rfl ?_
  refine J.icmp_eq 2254 dL_law_2249 (by decide) ⟨fun c2249 => ?_, fun c2249 => ?_⟩
  · obtain ⟨hw, -⟩ := hw
    specialize hw c2249
    refine J.iload 1 dL_law_2254 rfl ?_
    refine J.if_ne 2271 dL_law_2256 (by decide) ⟨fun c2256 => ?_, fun c2256 => ?_⟩
    · obtain ⟨hw, -⟩ := hw
      specialize hw c2256
      refine J.goto 3184 dL_law_2271 (by decide) ?_
      refine J.iincN 6 (K := (6 : Int32)) (lv' := fun y3184 => [(4, .int y3184), (6, .int r2238), (5, .int r2226), (0, .ref 69), (1, .ref x1), (2, .ref x2), (3, .ref x3)]) dL_law_3184 rfl (by decide) (by decide) (fun _ => rfl) hw ?_
      clear hw
      intro y3184 hw
      refine J.goto 23 dL_law_3187 (by decide) ?_
      exact J.pick [3, 4, 5, 6, 0] rfl (hK23 _ _ _ _ _ _ _ _ _ hw)
    · obtain ⟨-, hw⟩ := hw
      specialize hw c2256
      refine J.aload_n 5 dL_law_2259 rfl ?_
      refine J.iconst (v := (0 : Int32)) dL_law_2260 (by decide) ?_
      obtain ⟨f2261, hk2261, hn2261, hw⟩ := hw
      refine JV.lald0 dL_law_2261 hn2261 hk2261 ?_
      refine J.iload 0 dL_law_2262 rfl ?_
      refine J.i2l dL_law_2264 ?_
      refine J.lcmp dL_law_2265 ?_
      refine J.if_eq 2271 dL_law_2266 (by decide) ⟨fun c2266 => ?_, fun c2266 => ?_⟩
      · obtain ⟨hw, -⟩ := hw
        specialize hw c2266
        refine J.goto 3184 dL_law_2271 (by decide) ?_
        refine J.iincN 6 (K := (6 : Int32)) (lv' := fun y3184 => [(4, .int y3184), (6, .int r2238), (5, .int r2226), (0, .ref 69), (1, .ref x1), (2, .ref x2), (3, .ref x3)]) dL_law_3184 rfl (by decide) (by decide) (fun _ => rfl) hw ?_
        clear hw
        intro y3184 hw
        refine J.goto 23 dL_law_3187 (by decide) ?_
        exact J.pick [3, 4, 5, 6, 0] rfl (hK23 _ _ _ _ _ _ _ _ _ hw)
      · obtain ⟨-, hw⟩ := hw
        specialize hw c2266
        refine J.iconst (v := (0 : Int32)) dL_law_2269 (by decide) ?_
        exact J.zret rfl rfl dL_law_2270 ⟨_, _, _, rfl, _, rfl, hw⟩
  · obtain ⟨-, hw⟩ := hw
    specialize hw c2249
    refine J.iconst (v := (0 : Int32)) dL_law_2252 (by decide) ?_
    exact J.zret rfl rfl dL_law_2253 ⟨_, _, _, rfl, _, rfl, hw⟩
def wL_law_2274 (G : jG) (Q : Int32 → List jH → (Nat → Nat → Int32) → (Nat → Nat → Option Nat) → Prop) (K23 : List jH → (Nat → Nat → Int32) → (Nat → Nat → Option Nat) → Nat → Nat → Nat → Nat → Nat → Int32 → Prop) (sh : List jH) (V : Nat → Nat → Int32) (R : Nat → Nat → Option Nat) (c : Nat) (n : Nat) (x1 : Nat) (x2 : Nat) (x3 : Nat) (x4 : Int32) : Prop :=
  (vp_in (x4 + (1 : Int32)) (jScN G) ∧ (vp_in (x4 + (2 : Int32)) (jScN G) ∧ (jReg shX1 sh x1 ∧ (∃ c12288 n12288 c22288 n22288 : Nat, c12288 + c22288 ≤ c ∧ n12288 + n22288 ≤ n ∧ (wX0_odds x1 sh V R c12288 n12288 (jScF G (x4 + (1 : Int32)).toNatClampNeg) (jScF G (x4 + (2 : Int32)).toNatClampNeg) x3 (fun r2288 sh2288 V2288 R2288 => (vp_in (x4 + (1 : Int32)) (jScN G) ∧ (vp_in (x4 + (2 : Int32)) (jScN G) ∧ (jReg shX6 sh2288 x2 ∧ (wX6_odds x2 V2288 (jScF G (x4 + (1 : Int32)).toNatClampNeg) (jScF G (x4 + (2 : Int32)).toNatClampNeg) (fun r2306 V2306 => (jReg shX6 sh2288 x2 ∧ (wX6_thrown x2 V2306 (fun r2312 => ((r2312 = r2288 → ((¬ r2288 = 0 → (∀ y3184 : Int32, y3184 = x4 + (6 : Int32) → K23 sh2288 V2306 R2288 c22288 n22288 x1 x2 x3 y3184)) ∧ (r2288 = 0 → (∃ f2329 : Nat → Int64, sh2288[x3]? = some (jF (.inl (3, 1, .inr (.inl f2329)))) ∧ jn ≤ x3 ∧ (((lg_cmp (f2329 0) r2306.toInt64) = 0 → (∀ y3184 : Int32, y3184 = x4 + (6 : Int32) → K23 sh2288 V2306 R2288 c22288 n22288 x1 x2 x3 y3184)) ∧ (¬ (lg_cmp (f2329 0) r2306.toInt64) = 0 → Q (0 : Int32) sh2288 V2306 R2288)))))) ∧ (¬ r2312 = r2288 → Q (0 : Int32) sh2288 V2306 R2288))))))))))))))))
theorem rL_law_2274 {G : jG} {l : Launch} {d : Nat} (htr : l.stackTraces = false) (hdd : 107 ≤ d) {Q : Int32 → List jH → (Nat → Nat → Int32) → (Nat → Nat → Option Nat) → Prop} {K23 : List jH → (Nat → Nat → Int32) → (Nat → Nat → Option Nat) → Nat → Nat → Nat → Nat → Nat → Int32 → Prop} (hK23 : ∀ (sh : List jH) (V : Nat → Nat → Int32) (R : Nat → Nat → Option Nat) (c : Nat) (n : Nat) (x1 : Nat) (x2 : Nat) (x3 : Nat) (x4 : Int32), K23 sh V R c n x1 x2 x3 x4 → J G l ML_law d c n 23 [(0, .ref 69), (1, .ref x1), (2, .ref x2), (3, .ref x3), (4, .int x4)] [] (mk sh V R) (jSr Q) jNo) {sh : List jH} {V : Nat → Nat → Int32} {R : Nat → Nat → Option Nat} {c : Nat} {n : Nat} {x1 : Nat} {x2 : Nat} {x3 : Nat} {x4 : Int32} (hw : wL_law_2274 G Q K23 sh V R c n x1 x2 x3 x4) : J G l ML_law d c n 2274 [(0, .ref 69), (1, .ref x1), (2, .ref x2), (3, .ref x3), (4, .int x4)] [] (mk sh V R) (jSr Q) jNo := by
  unfold wL_law_2274 at hw
  refine J.aload_n 1 dL_law_2274 rfl ?_
  refine J.aload_n 0 dL_law_2275 rfl ?_
  refine J.iload 4 dL_law_2276 rfl ?_
  refine J.iconst (v := (1 : Int32)) dL_law_2278 (by decide) ?_
  refine J.iadd dL_law_2279 ?_
  obtain ⟨h2280, hw⟩ := hw
  refine J.sld dL_law_2280 h2280 ?_
  refine J.aload_n 0 dL_law_2281 rfl ?_
  refine J.iload 4 dL_law_2282 rfl ?_
  refine J.iconst (v := (2 : Int32)) dL_law_2284 (by decide) ?_
  refine J.iadd dL_law_2285 ?_
  obtain ⟨h2286, hw⟩ := hw
  refine J.sld dL_law_2286 h2286 ?_
  refine J.aload_n 3 dL_law_2287 rfl ?_
  obtain ⟨hq2288_x1, hw⟩ := hw
  obtain ⟨c12288, n12288, c22288, n22288, hc2288, hd2288, hw⟩ := hw
  refine uL_267 rfl htr hq2288_x1 dL_law_2288 (by omega) (Nat.le_of_ble_eq_true rfl) hw ⟨hc2288, hd2288⟩ ?_
  clear hw
  intro r2288 sh2288 V2288 R2288 hw
  refine J.istore (lv' := [(5, .int r2288), (0, .ref 69), (1, .ref x1), (2, .ref x2), (3, .ref x3), (4, .int x4)]) dL_law_2291 (by decide) rfl ?_
  refine J.aload_n 3 dL_law_2293 rfl ?_
  refine J.aload_n 1 dL_law_2294 rfl ?_
  refine J.iload 5 dL_law_2295 rfl ?_
  refine J.iconst (v := (1 : Int32)) dL_law_2297 (by decide) ?_
  refine J.iadd dL_law_2298 ?_
  obtain ⟨h2299, hw⟩ := hw
  refine J.sld dL_law_2299 h2299 ?_
  refine J.aload_n 1 dL_law_2300 rfl ?_
  refine J.iload 5 dL_law_2301 rfl ?_
  refine J.iconst (v := (2 : Int32)) dL_law_2303 (by decide) ?_
  refine J.iadd dL_law_2304 ?_
  obtain ⟨h2305, hw⟩ := hw
  refine J.sld dL_law_2305 h2305 ?_
  obtain ⟨hq2306_x2, hw⟩ := hw
  refine uL_269 rfl htr hq2306_x2 dL_law_2306 (by omega) (Nat.le_of_ble_eq_true rfl) hw ?_
  clear hw
  intro r2306 V2306 hw
  refine J.istore (lv' := [(6, .int r2306), (5, .int r2288), (0, .ref 69), (1, .ref x1), (2, .ref x2), (3, .ref x3), (4, .int x4)]) dL_law_2309 (by decide) rfl ?_
  refine J.aload_n 4 dL_law_2311 rfl ?_
  obtain ⟨hq2312_x2, hw⟩ := hw
  refine uL_159 rfl htr hq2312_x2 dL_law_2312 (by omega) (Nat.le_of_ble_eq_true rfl) hw ?_
  clear hw
  intro r2312 hw
  refine J.iload 1 dL_law_2315 rfl ?_
  refine J.icmp_eq 2322 dL_law_2317 (by decide) ⟨fun c2317 => ?_, fun c2317 => ?_⟩
  · obtain ⟨hw, -⟩ := hw
    specialize hw c2317
    refine J.iload 1 dL_law_2322 rfl ?_
    refine J.if_ne 2339 dL_law_2324 (by decide) ⟨fun c2324 => ?_, fun c2324 => ?_⟩
    · obtain ⟨hw, -⟩ := hw
      specialize hw c2324
      refine J.goto 3184 dL_law_2339 (by decide) ?_
      refine J.iincN 6 (K := (6 : Int32)) (lv' := fun y3184 => [(4, .int y3184), (6, .int r2306), (5, .int r2288), (0, .ref 69), (1, .ref x1), (2, .ref x2), (3, .ref x3)]) dL_law_3184 rfl (by decide) (by decide) (fun _ => rfl) hw ?_
      clear hw
      intro y3184 hw
      refine J.goto 23 dL_law_3187 (by decide) ?_
      exact J.pick [3, 4, 5, 6, 0] rfl (hK23 _ _ _ _ _ _ _ _ _ hw)
    · obtain ⟨-, hw⟩ := hw
      specialize hw c2324
      refine J.aload_n 5 dL_law_2327 rfl ?_
      refine J.iconst (v := (0 : Int32)) dL_law_2328 (by decide) ?_
      obtain ⟨f2329, hk2329, hn2329, hw⟩ := hw
      refine JV.lald0 dL_law_2329 hn2329 hk2329 ?_
      refine J.iload 0 dL_law_2330 rfl ?_
      refine J.i2l dL_law_2332 ?_
      refine J.lcmp dL_law_2333 ?_
      refine J.if_eq 2339 dL_law_2334 (by decide) ⟨fun c2334 => ?_, fun c2334 => ?_⟩
      · obtain ⟨hw, -⟩ := hw
        specialize hw c2334
        refine J.goto 3184 dL_law_2339 (by decide) ?_
        refine J.iincN 6 (K := (6 : Int32)) (lv' := fun y3184 => [(4, .int y3184), (6, .int r2306), (5, .int r2288), (0, .ref 69), (1, .ref x1), (2, .ref x2), (3, .ref x3)]) dL_law_3184 rfl (by decide) (by decide) (fun _ => rfl) hw ?_
        clear hw
        intro y3184 hw
        refine J.goto 23 dL_law_3187 (by decide) ?_
        exact J.pick [3, 4, 5, 6, 0] rfl (hK23 _ _ _ _ _ _ _ _ _ hw)
      · obtain ⟨-, hw⟩ := hw
        specialize hw c2334
        refine J.iconst (v := (0 : Int32)) dL_law_2337 (by decide) ?_
        exact J.zret rfl rfl dL_law_2338 ⟨_, _, _, rfl, _, rfl, hw⟩
  · obtain ⟨-, hw⟩ := hw
    specialize hw c2317
    refine J.iconst (v := (0 : Int32)) dL_law_2320 (by decide) ?_
    exact J.zret rfl rfl dL_law_2321 ⟨_, _, _, rfl, _, rfl, hw⟩
def wL_law_2342 (G : jG) (Q : Int32 → List jH → (Nat → Nat → Int32) → (Nat → Nat → Option Nat) → Prop) (K23 : List jH → (Nat → Nat → Int32) → (Nat → Nat → Option Nat) → Nat → Nat → Nat → Nat → Nat → Int32 → Prop) (sh : List jH) (V : Nat → Nat → Int32) (R : Nat → Nat → Option Nat) (c : Nat) (n : Nat) (x1 : Nat) (x2 : Nat) (x3 : Nat) (x4 : Int32) : Prop :=
  (vp_in (x4 + (1 : Int32)) (jScN G) ∧ (vp_in (x4 + (2 : Int32)) (jScN G) ∧ (jReg shX1 sh x1 ∧ (∃ c12356 n12356 c22356 n22356 : Nat, c12356 + c22356 ≤ c ∧ n12356 + n22356 ≤ n ∧ (wX0_waits x1 sh V R c12356 n12356 (jScF G (x4 + (1 : Int32)).toNatClampNeg) (jScF G (x4 + (2 : Int32)).toNatClampNeg) x3 (fun r2356 sh2356 V2356 R2356 => (vp_in (x4 + (1 : Int32)) (jScN G) ∧ (vp_in (x4 + (2 : Int32)) (jScN G) ∧ (jReg shX6 sh2356 x2 ∧ (wX6_waits x2 V2356 (jScF G (x4 + (1 : Int32)).toNatClampNeg) (jScF G (x4 + (2 : Int32)).toNatClampNeg) (fun r2374 V2374 => (jReg shX6 sh2356 x2 ∧ (wX6_thrown x2 V2374 (fun r2380 => ((r2380 = r2356 → ((¬ r2356 = 0 → (∀ y3184 : Int32, y3184 = x4 + (6 : Int32) → K23 sh2356 V2374 R2356 c22356 n22356 x1 x2 x3 y3184)) ∧ (r2356 = 0 → (∃ f2397 : Nat → Int64, sh2356[x3]? = some (jF (.inl (3, 1, .inr (.inl f2397)))) ∧ jn ≤ x3 ∧ (((lg_cmp (f2397 0) r2374.toInt64) = 0 → (∀ y3184 : Int32, y3184 = x4 + (6 : Int32) → K23 sh2356 V2374 R2356 c22356 n22356 x1 x2 x3 y3184)) ∧ (¬ (lg_cmp (f2397 0) r2374.toInt64) = 0 → Q (0 : Int32) sh2356 V2374 R2356)))))) ∧ (¬ r2380 = r2356 → Q (0 : Int32) sh2356 V2374 R2356))))))))))))))))
theorem rL_law_2342 {G : jG} {l : Launch} {d : Nat} (htr : l.stackTraces = false) (hdd : 107 ≤ d) {Q : Int32 → List jH → (Nat → Nat → Int32) → (Nat → Nat → Option Nat) → Prop} {K23 : List jH → (Nat → Nat → Int32) → (Nat → Nat → Option Nat) → Nat → Nat → Nat → Nat → Nat → Int32 → Prop} (hK23 : ∀ (sh : List jH) (V : Nat → Nat → Int32) (R : Nat → Nat → Option Nat) (c : Nat) (n : Nat) (x1 : Nat) (x2 : Nat) (x3 : Nat) (x4 : Int32), K23 sh V R c n x1 x2 x3 x4 → J G l ML_law d c n 23 [(0, .ref 69), (1, .ref x1), (2, .ref x2), (3, .ref x3), (4, .int x4)] [] (mk sh V R) (jSr Q) jNo) {sh : List jH} {V : Nat → Nat → Int32} {R : Nat → Nat → Option Nat} {c : Nat} {n : Nat} {x1 : Nat} {x2 : Nat} {x3 : Nat} {x4 : Int32} (hw : wL_law_2342 G Q K23 sh V R c n x1 x2 x3 x4) : J G l ML_law d c n 2342 [(0, .ref 69), (1, .ref x1), (2, .ref x2), (3, .ref x3), (4, .int x4)] [] (mk sh V R) (jSr Q) jNo := by
  unfold wL_law_2342 at hw
  refine J.aload_n 1 dL_law_2342 rfl ?_
  refine J.aload_n 0 dL_law_2343 rfl ?_
  refine J.iload 4 dL_law_2344 rfl ?_
  refine J.iconst (v := (1 : Int32)) dL_law_2346 (by decide) ?_
  refine J.iadd dL_law_2347 ?_
  obtain ⟨h2348, hw⟩ := hw
  refine J.sld dL_law_2348 h2348 ?_
  refine J.aload_n 0 dL_law_2349 rfl ?_
  refine J.iload 4 dL_law_2350 rfl ?_
  refine J.iconst (v := (2 : Int32)) dL_law_2352 (by decide) ?_
  refine J.iadd dL_law_2353 ?_
  obtain ⟨h2354, hw⟩ := hw
  refine J.sld dL_law_2354 h2354 ?_
  refine J.aload_n 3 dL_law_2355 rfl ?_
  obtain ⟨hq2356_x1, hw⟩ := hw
  obtain ⟨c12356, n12356, c22356, n22356, hc2356, hd2356, hw⟩ := hw
  refine uL_270 rfl htr hq2356_x1 dL_law_2356 (by omega) (Nat.le_of_ble_eq_true rfl) hw ⟨hc2356, hd2356⟩ ?_
  clear hw
  intro r2356 sh2356 V2356 R2356 hw
  refine J.istore (lv' := [(5, .int r2356), (0, .ref 69), (1, .ref x1), (2, .ref x2), (3, .ref x3), (4, .int x4)]) dL_law_2359 (by decide) rfl ?_
  refine J.aload_n 3 dL_law_2361 rfl ?_
  refine J.aload_n 1 dL_law_2362 rfl ?_
  refine J.iload 5 dL_law_2363 rfl ?_
  refine J.iconst (v := (1 : Int32)) dL_law_2365 (by decide) ?_
  refine J.iadd dL_law_2366 ?_
  obtain ⟨h2367, hw⟩ := hw
  refine J.sld dL_law_2367 h2367 ?_
  refine J.aload_n 1 dL_law_2368 rfl ?_
  refine J.iload 5 dL_law_2369 rfl ?_
  refine J.iconst (v := (2 : Int32)) dL_law_2371 (by decide) ?_
  refine J.iadd dL_law_2372 ?_
  obtain ⟨h2373, hw⟩ := hw
  refine J.sld dL_law_2373 h2373 ?_
  obtain ⟨hq2374_x2, hw⟩ := hw
  refine uL_272 rfl htr hq2374_x2 dL_law_2374 (by omega) (Nat.le_of_ble_eq_true rfl) hw ?_
  clear hw
  intro r2374 V2374 hw
  refine J.istore (lv' := [(6, .int r2374), (5, .int r2356), (0, .ref 69), (1, .ref x1), (2, .ref x2), (3, .ref x3), (4, .int x4)]) dL_law_2377 (by decide) rfl ?_
  refine J.aload_n 4 dL_law_2379 rfl ?_
  obtain ⟨hq2380_x2, hw⟩ := hw
  refine uL_159 rfl htr hq2380_x2 dL_law_2380 (by omega) (Nat.le_of_ble_eq_true rfl) hw ?_
  clear hw
  intro r2380 hw
  refine J.iload 1 dL_law_2383 rfl ?_
  refine J.icmp_eq 2390 dL_law_2385 (by decide) ⟨fun c2385 => ?_, fun c2385 => ?_⟩
  · obtain ⟨hw, -⟩ := hw
    specialize hw c2385
    refine J.iload 1 dL_law_2390 rfl ?_
    refine J.if_ne 2407 dL_law_2392 (by decide) ⟨fun c2392 => ?_, fun c2392 => ?_⟩
    · obtain ⟨hw, -⟩ := hw
      specialize hw c2392
      refine J.goto 3184 dL_law_2407 (by decide) ?_
      refine J.iincN 6 (K := (6 : Int32)) (lv' := fun y3184 => [(4, .int y3184), (6, .int r2374), (5, .int r2356), (0, .ref 69), (1, .ref x1), (2, .ref x2), (3, .ref x3)]) dL_law_3184 rfl (by decide) (by decide) (fun _ => rfl) hw ?_
      clear hw
      intro y3184 hw
      refine J.goto 23 dL_law_3187 (by decide) ?_
      exact J.pick [3, 4, 5, 6, 0] rfl (hK23 _ _ _ _ _ _ _ _ _ hw)
    · obtain ⟨-, hw⟩ := hw
      specialize hw c2392
      refine J.aload_n 5 dL_law_2395 rfl ?_
      refine J.iconst (v := (0 : Int32)) dL_law_2396 (by decide) ?_
      obtain ⟨f2397, hk2397, hn2397, hw⟩ := hw
      refine JV.lald0 dL_law_2397 hn2397 hk2397 ?_
      refine J.iload 0 dL_law_2398 rfl ?_
      refine J.i2l dL_law_2400 ?_
      refine J.lcmp dL_law_2401 ?_
      refine J.if_eq 2407 dL_law_2402 (by decide) ⟨fun c2402 => ?_, fun c2402 => ?_⟩
      · obtain ⟨hw, -⟩ := hw
        specialize hw c2402
        refine J.goto 3184 dL_law_2407 (by decide) ?_
        refine J.iincN 6 (K := (6 : Int32)) (lv' := fun y3184 => [(4, .int y3184), (6, .int r2374), (5, .int r2356), (0, .ref 69), (1, .ref x1), (2, .ref x2), (3, .ref x3)]) dL_law_3184 rfl (by decide) (by decide) (fun _ => rfl) hw ?_
        clear hw
        intro y3184 hw
        refine J.goto 23 dL_law_3187 (by decide) ?_
        exact J.pick [3, 4, 5, 6, 0] rfl (hK23 _ _ _ _ _ _ _ _ _ hw)
      · obtain ⟨-, hw⟩ := hw
        specialize hw c2402
        refine J.iconst (v := (0 : Int32)) dL_law_2405 (by decide) ?_
        exact J.zret rfl rfl dL_law_2406 ⟨_, _, _, rfl, _, rfl, hw⟩
  · obtain ⟨-, hw⟩ := hw
    specialize hw c2385
    refine J.iconst (v := (0 : Int32)) dL_law_2388 (by decide) ?_
    exact J.zret rfl rfl dL_law_2389 ⟨_, _, _, rfl, _, rfl, hw⟩
def wL_law_2410 (G : jG) (Q : Int32 → List jH → (Nat → Nat → Int32) → (Nat → Nat → Option Nat) → Prop) (K23 : List jH → (Nat → Nat → Int32) → (Nat → Nat → Option Nat) → Nat → Nat → Nat → Nat → Nat → Int32 → Prop) (sh : List jH) (V : Nat → Nat → Int32) (R : Nat → Nat → Option Nat) (c : Nat) (n : Nat) (x1 : Nat) (x2 : Nat) (x3 : Nat) (x4 : Int32) : Prop :=
  (vp_in (x4 + (1 : Int32)) (jScN G) ∧ (vp_in (x4 + (2 : Int32)) (jScN G) ∧ (jReg shX1 sh x1 ∧ (∃ c12424 n12424 c22424 n22424 : Nat, c12424 + c22424 ≤ c ∧ n12424 + n22424 ≤ n ∧ (wX0_treaty x1 sh V R c12424 n12424 (jScF G (x4 + (1 : Int32)).toNatClampNeg) (jScF G (x4 + (2 : Int32)).toNatClampNeg) x3 (fun r2424 sh2424 V2424 R2424 => (vp_in (x4 + (1 : Int32)) (jScN G) ∧ (vp_in (x4 + (2 : Int32)) (jScN G) ∧ (jReg shX6 sh2424 x2 ∧ (wX6_treaty x2 V2424 (jScF G (x4 + (1 : Int32)).toNatClampNeg) (jScF G (x4 + (2 : Int32)).toNatClampNeg) (fun r2442 V2442 => (jReg shX6 sh2424 x2 ∧ (wX6_thrown x2 V2442 (fun r2448 => ((r2448 = r2424 → ((¬ r2424 = 0 → (∀ y3184 : Int32, y3184 = x4 + (6 : Int32) → K23 sh2424 V2442 R2424 c22424 n22424 x1 x2 x3 y3184)) ∧ (r2424 = 0 → (∃ f2465 : Nat → Int64, sh2424[x3]? = some (jF (.inl (3, 1, .inr (.inl f2465)))) ∧ jn ≤ x3 ∧ (((lg_cmp (f2465 0) r2442.toInt64) = 0 → (∀ y3184 : Int32, y3184 = x4 + (6 : Int32) → K23 sh2424 V2442 R2424 c22424 n22424 x1 x2 x3 y3184)) ∧ (¬ (lg_cmp (f2465 0) r2442.toInt64) = 0 → Q (0 : Int32) sh2424 V2442 R2424)))))) ∧ (¬ r2448 = r2424 → Q (0 : Int32) sh2424 V2442 R2424))))))))))))))))
theorem rL_law_2410 {G : jG} {l : Launch} {d : Nat} (htr : l.stackTraces = false) (hdd : 107 ≤ d) {Q : Int32 → List jH → (Nat → Nat → Int32) → (Nat → Nat → Option Nat) → Prop} {K23 : List jH → (Nat → Nat → Int32) → (Nat → Nat → Option Nat) → Nat → Nat → Nat → Nat → Nat → Int32 → Prop} (hK23 : ∀ (sh : List jH) (V : Nat → Nat → Int32) (R : Nat → Nat → Option Nat) (c : Nat) (n : Nat) (x1 : Nat) (x2 : Nat) (x3 : Nat) (x4 : Int32), K23 sh V R c n x1 x2 x3 x4 → J G l ML_law d c n 23 [(0, .ref 69), (1, .ref x1), (2, .ref x2), (3, .ref x3), (4, .int x4)] [] (mk sh V R) (jSr Q) jNo) {sh : List jH} {V : Nat → Nat → Int32} {R : Nat → Nat → Option Nat} {c : Nat} {n : Nat} {x1 : Nat} {x2 : Nat} {x3 : Nat} {x4 : Int32} (hw : wL_law_2410 G Q K23 sh V R c n x1 x2 x3 x4) : J G l ML_law d c n 2410 [(0, .ref 69), (1, .ref x1), (2, .ref x2), (3, .ref x3), (4, .int x4)] [] (mk sh V R) (jSr Q) jNo := by
  unfold wL_law_2410 at hw
  refine J.aload_n 1 dL_law_2410 rfl ?_
  refine J.aload_n 0 dL_law_2411 rfl ?_
  refine J.iload 4 dL_law_2412 rfl ?_
  refine J.iconst (v := (1 : Int32)) dL_law_2414 (by decide) ?_
  refine J.iadd dL_law_2415 ?_
  obtain ⟨h2416, hw⟩ := hw
  refine J.sld dL_law_2416 h2416 ?_
  refine J.aload_n 0 dL_law_2417 rfl ?_
  refine J.iload 4 dL_law_2418 rfl ?_
  refine J.iconst (v := (2 : Int32)) dL_law_2420 (by decide) ?_
  refine J.iadd dL_law_2421 ?_
  obtain ⟨h2422, hw⟩ := hw
  refine J.sld dL_law_2422 h2422 ?_
  refine J.aload_n 3 dL_law_2423 rfl ?_
  obtain ⟨hq2424_x1, hw⟩ := hw
  obtain ⟨c12424, n12424, c22424, n22424, hc2424, hd2424, hw⟩ := hw
  refine uL_273 rfl htr hq2424_x1 dL_law_2424 (by omega) (Nat.le_of_ble_eq_true rfl) hw ⟨hc2424, hd2424⟩ ?_
  clear hw
  intro r2424 sh2424 V2424 R2424 hw
  refine J.istore (lv' := [(5, .int r2424), (0, .ref 69), (1, .ref x1), (2, .ref x2), (3, .ref x3), (4, .int x4)]) dL_law_2427 (by decide) rfl ?_
  refine J.aload_n 3 dL_law_2429 rfl ?_
  refine J.aload_n 1 dL_law_2430 rfl ?_
  refine J.iload 5 dL_law_2431 rfl ?_
  refine J.iconst (v := (1 : Int32)) dL_law_2433 (by decide) ?_
  refine J.iadd dL_law_2434 ?_
  obtain ⟨h2435, hw⟩ := hw
  refine J.sld dL_law_2435 h2435 ?_
  refine J.aload_n 1 dL_law_2436 rfl ?_
  refine J.iload 5 dL_law_2437 rfl ?_
  refine J.iconst (v := (2 : Int32)) dL_law_2439 (by decide) ?_
  refine J.iadd dL_law_2440 ?_
  obtain ⟨h2441, hw⟩ := hw
  refine J.sld dL_law_2441 h2441 ?_
  obtain ⟨hq2442_x2, hw⟩ := hw
  refine uL_275 rfl htr hq2442_x2 dL_law_2442 (by omega) (Nat.le_of_ble_eq_true rfl) hw ?_
  clear hw
  intro r2442 V2442 hw
  refine J.istore (lv' := [(6, .int r2442), (5, .int r2424), (0, .ref 69), (1, .ref x1), (2, .ref x2), (3, .ref x3), (4, .int x4)]) dL_law_2445 (by decide) rfl ?_
  refine J.aload_n 4 dL_law_2447 rfl ?_
  obtain ⟨hq2448_x2, hw⟩ := hw
  refine uL_159 rfl htr hq2448_x2 dL_law_2448 (by omega) (Nat.le_of_ble_eq_true rfl) hw ?_
  clear hw
  intro r2448 hw
  refine J.iload 1 dL_law_2451 rfl ?_
  refine J.icmp_eq 2458 dL_law_2453 (by decide) ⟨fun c2453 => ?_, fun c2453 => ?_⟩
  · obtain ⟨hw, -⟩ := hw
    specialize hw c2453
    refine J.iload 1 dL_law_2458 rfl ?_
    refine J.if_ne 2475 dL_law_2460 (by decide) ⟨fun c2460 => ?_, fun c2460 => ?_⟩
    · obtain ⟨hw, -⟩ := hw
      specialize hw c2460
      refine J.goto 3184 dL_law_2475 (by decide) ?_
      refine J.iincN 6 (K := (6 : Int32)) (lv' := fun y3184 => [(4, .int y3184), (6, .int r2442), (5, .int r2424), (0, .ref 69), (1, .ref x1), (2, .ref x2), (3, .ref x3)]) dL_law_3184 rfl (by decide) (by decide) (fun _ => rfl) hw ?_
      clear hw
      intro y3184 hw
      refine J.goto 23 dL_law_3187 (by decide) ?_
      exact J.pick [3, 4, 5, 6, 0] rfl (hK23 _ _ _ _ _ _ _ _ _ hw)
    · obtain ⟨-, hw⟩ := hw
      specialize hw c2460
      refine J.aload_n 5 dL_law_2463 rfl ?_
      refine J.iconst (v := (0 : Int32)) dL_law_2464 (by decide) ?_
      obtain ⟨f2465, hk2465, hn2465, hw⟩ := hw
      refine JV.lald0 dL_law_2465 hn2465 hk2465 ?_
      refine J.iload 0 dL_law_2466 rfl ?_
      refine J.i2l dL_law_2468 ?_
      refine J.lcmp dL_law_2469 ?_
      refine J.if_eq 2475 dL_law_2470 (by decide) ⟨fun c2470 => ?_, fun c2470 => ?_⟩
      · obtain ⟨hw, -⟩ := hw
        specialize hw c2470
        refine J.goto 3184 dL_law_2475 (by decide) ?_
        refine J.iincN 6 (K := (6 : Int32)) (lv' := fun y3184 => [(4, .int y3184), (6, .int r2442), (5, .int r2424), (0, .ref 69), (1, .ref x1), (2, .ref x2), (3, .ref x3)]) dL_law_3184 rfl (by decide) (by decide) (fun _ => rfl) hw ?_
        clear hw
        intro y3184 hw
        refine J.goto 23 dL_law_3187 (by decide) ?_
        exact J.pick [3, 4, 5, 6, 0] rfl (hK23 _ _ _ _ _ _ _ _ _ hw)
      · obtain ⟨-, hw⟩ := hw
        specialize hw c2470
        refine J.iconst (v := (0 : Int32)) dL_law_2473 (by decide) ?_
        exact J.zret rfl rfl dL_law_2474 ⟨_, _, _, rfl, _, rfl, hw⟩
  · obtain ⟨-, hw⟩ := hw
    specialize hw c2453
    refine J.iconst (v := (0 : Int32)) dL_law_2456 (by decide) ?_
    exact J.zret rfl rfl dL_law_2457 ⟨_, _, _, rfl, _, rfl, hw⟩
def wL_law_2478 (G : jG) (Q : Int32 → List jH → (Nat → Nat → Int32) → (Nat → Nat → Option Nat) → Prop) (K23 : List jH → (Nat → Nat → Int32) → (Nat → Nat → Option Nat) → Nat → Nat → Nat → Nat → Nat → Int32 → Prop) (sh : List jH) (V : Nat → Nat → Int32) (R : Nat → Nat → Option Nat) (c : Nat) (n : Nat) (x1 : Nat) (x2 : Nat) (x3 : Nat) (x4 : Int32) : Prop :=
  (vp_in (x4 + (1 : Int32)) (jScN G) ∧ (vp_in (x4 + (2 : Int32)) (jScN G) ∧ (jReg shX1 sh x1 ∧ (∃ c12492 n12492 c22492 n22492 : Nat, c12492 + c22492 ≤ c ∧ n12492 + n22492 ≤ n ∧ (wX0_rests x1 sh V R c12492 n12492 (jScF G (x4 + (1 : Int32)).toNatClampNeg) (jScF G (x4 + (2 : Int32)).toNatClampNeg) x3 (fun r2492 sh2492 V2492 R2492 => (vp_in (x4 + (1 : Int32)) (jScN G) ∧ (vp_in (x4 + (2 : Int32)) (jScN G) ∧ (jReg shX6 sh2492 x2 ∧ (wX6_rests x2 V2492 (jScF G (x4 + (1 : Int32)).toNatClampNeg) (jScF G (x4 + (2 : Int32)).toNatClampNeg) (fun r2510 V2510 => (jReg shX6 sh2492 x2 ∧ (wX6_thrown x2 V2510 (fun r2516 => ((r2516 = r2492 → ((¬ r2492 = 0 → (∀ y3184 : Int32, y3184 = x4 + (6 : Int32) → K23 sh2492 V2510 R2492 c22492 n22492 x1 x2 x3 y3184)) ∧ (r2492 = 0 → (∃ f2533 : Nat → Int64, sh2492[x3]? = some (jF (.inl (3, 1, .inr (.inl f2533)))) ∧ jn ≤ x3 ∧ (((lg_cmp (f2533 0) r2510.toInt64) = 0 → (∀ y3184 : Int32, y3184 = x4 + (6 : Int32) → K23 sh2492 V2510 R2492 c22492 n22492 x1 x2 x3 y3184)) ∧ (¬ (lg_cmp (f2533 0) r2510.toInt64) = 0 → Q (0 : Int32) sh2492 V2510 R2492)))))) ∧ (¬ r2516 = r2492 → Q (0 : Int32) sh2492 V2510 R2492))))))))))))))))
theorem rL_law_2478 {G : jG} {l : Launch} {d : Nat} (htr : l.stackTraces = false) (hdd : 107 ≤ d) {Q : Int32 → List jH → (Nat → Nat → Int32) → (Nat → Nat → Option Nat) → Prop} {K23 : List jH → (Nat → Nat → Int32) → (Nat → Nat → Option Nat) → Nat → Nat → Nat → Nat → Nat → Int32 → Prop} (hK23 : ∀ (sh : List jH) (V : Nat → Nat → Int32) (R : Nat → Nat → Option Nat) (c : Nat) (n : Nat) (x1 : Nat) (x2 : Nat) (x3 : Nat) (x4 : Int32), K23 sh V R c n x1 x2 x3 x4 → J G l ML_law d c n 23 [(0, .ref 69), (1, .ref x1), (2, .ref x2), (3, .ref x3), (4, .int x4)] [] (mk sh V R) (jSr Q) jNo) {sh : List jH} {V : Nat → Nat → Int32} {R : Nat → Nat → Option Nat} {c : Nat} {n : Nat} {x1 : Nat} {x2 : Nat} {x3 : Nat} {x4 : Int32} (hw : wL_law_2478 G Q K23 sh V R c n x1 x2 x3 x4) : J G l ML_law d c n 2478 [(0, .ref 69), (1, .ref x1), (2, .ref x2), (3, .ref x3), (4, .int x4)] [] (mk sh V R) (jSr Q) jNo := by
  unfold wL_law_2478 at hw
  refine J.aload_n 1 dL_law_2478 rfl ?_
  refine J.aload_n 0 dL_law_2479 rfl ?_
  refine J.iload 4 dL_law_2480 rfl ?_
  refine J.iconst (v := (1 : Int32)) dL_law_2482 (by decide) ?_
  refine J.iadd dL_law_2483 ?_
  obtain ⟨h2484, hw⟩ := hw
  refine J.sld dL_law_2484 h2484 ?_
  refine J.aload_n 0 dL_law_2485 rfl ?_
  refine J.iload 4 dL_law_2486 rfl ?_
  refine J.iconst (v := (2 : Int32)) dL_law_2488 (by decide) ?_
  refine J.iadd dL_law_2489 ?_
  obtain ⟨h2490, hw⟩ := hw
  refine J.sld dL_law_2490 h2490 ?_
  refine J.aload_n 3 dL_law_2491 rfl ?_
  obtain ⟨hq2492_x1, hw⟩ := hw
  obtain ⟨c12492, n12492, c22492, n22492, hc2492, hd2492, hw⟩ := hw
  refine uL_276 rfl htr hq2492_x1 dL_law_2492 (by omega) (Nat.le_of_ble_eq_true rfl) hw ⟨hc2492, hd2492⟩ ?_
  clear hw
  intro r2492 sh2492 V2492 R2492 hw
  refine J.istore (lv' := [(5, .int r2492), (0, .ref 69), (1, .ref x1), (2, .ref x2), (3, .ref x3), (4, .int x4)]) dL_law_2495 (by decide) rfl ?_
  refine J.aload_n 3 dL_law_2497 rfl ?_
  refine J.aload_n 1 dL_law_2498 rfl ?_
  refine J.iload 5 dL_law_2499 rfl ?_
  refine J.iconst (v := (1 : Int32)) dL_law_2501 (by decide) ?_
  refine J.iadd dL_law_2502 ?_
  obtain ⟨h2503, hw⟩ := hw
  refine J.sld dL_law_2503 h2503 ?_
  refine J.aload_n 1 dL_law_2504 rfl ?_
  refine J.iload 5 dL_law_2505 rfl ?_
  refine J.iconst (v := (2 : Int32)) dL_law_2507 (by decide) ?_
  refine J.iadd dL_law_2508 ?_
  obtain ⟨h2509, hw⟩ := hw
  refine J.sld dL_law_2509 h2509 ?_
  obtain ⟨hq2510_x2, hw⟩ := hw
  refine uL_278 rfl htr hq2510_x2 dL_law_2510 (by omega) (Nat.le_of_ble_eq_true rfl) hw ?_
  clear hw
  intro r2510 V2510 hw
  refine J.istore (lv' := [(6, .int r2510), (5, .int r2492), (0, .ref 69), (1, .ref x1), (2, .ref x2), (3, .ref x3), (4, .int x4)]) dL_law_2513 (by decide) rfl ?_
  refine J.aload_n 4 dL_law_2515 rfl ?_
  obtain ⟨hq2516_x2, hw⟩ := hw
  refine uL_159 rfl htr hq2516_x2 dL_law_2516 (by omega) (Nat.le_of_ble_eq_true rfl) hw ?_
  clear hw
  intro r2516 hw
  refine J.iload 1 dL_law_2519 rfl ?_
  refine J.icmp_eq 2526 dL_law_2521 (by decide) ⟨fun c2521 => ?_, fun c2521 => ?_⟩
  · obtain ⟨hw, -⟩ := hw
    specialize hw c2521
    refine J.iload 1 dL_law_2526 rfl ?_
    refine J.if_ne 2543 dL_law_2528 (by decide) ⟨fun c2528 => ?_, fun c2528 => ?_⟩
    · obtain ⟨hw, -⟩ := hw
      specialize hw c2528
      refine J.goto 3184 dL_law_2543 (by decide) ?_
      refine J.iincN 6 (K := (6 : Int32)) (lv' := fun y3184 => [(4, .int y3184), (6, .int r2510), (5, .int r2492), (0, .ref 69), (1, .ref x1), (2, .ref x2), (3, .ref x3)]) dL_law_3184 rfl (by decide) (by decide) (fun _ => rfl) hw ?_
      clear hw
      intro y3184 hw
      refine J.goto 23 dL_law_3187 (by decide) ?_
      exact J.pick [3, 4, 5, 6, 0] rfl (hK23 _ _ _ _ _ _ _ _ _ hw)
    · obtain ⟨-, hw⟩ := hw
      specialize hw c2528
      refine J.aload_n 5 dL_law_2531 rfl ?_
      refine J.iconst (v := (0 : Int32)) dL_law_2532 (by decide) ?_
      obtain ⟨f2533, hk2533, hn2533, hw⟩ := hw
      refine JV.lald0 dL_law_2533 hn2533 hk2533 ?_
      refine J.iload 0 dL_law_2534 rfl ?_
      refine J.i2l dL_law_2536 ?_
      refine J.lcmp dL_law_2537 ?_
      refine J.if_eq 2543 dL_law_2538 (by decide) ⟨fun c2538 => ?_, fun c2538 => ?_⟩
      · obtain ⟨hw, -⟩ := hw
        specialize hw c2538
        refine J.goto 3184 dL_law_2543 (by decide) ?_
        refine J.iincN 6 (K := (6 : Int32)) (lv' := fun y3184 => [(4, .int y3184), (6, .int r2510), (5, .int r2492), (0, .ref 69), (1, .ref x1), (2, .ref x2), (3, .ref x3)]) dL_law_3184 rfl (by decide) (by decide) (fun _ => rfl) hw ?_
        clear hw
        intro y3184 hw
        refine J.goto 23 dL_law_3187 (by decide) ?_
        exact J.pick [3, 4, 5, 6, 0] rfl (hK23 _ _ _ _ _ _ _ _ _ hw)
      · obtain ⟨-, hw⟩ := hw
        specialize hw c2538
        refine J.iconst (v := (0 : Int32)) dL_law_2541 (by decide) ?_
        exact J.zret rfl rfl dL_law_2542 ⟨_, _, _, rfl, _, rfl, hw⟩
  · obtain ⟨-, hw⟩ := hw
    specialize hw c2521
    refine J.iconst (v := (0 : Int32)) dL_law_2524 (by decide) ?_
    exact J.zret rfl rfl dL_law_2525 ⟨_, _, _, rfl, _, rfl, hw⟩
def wL_law_2546 (G : jG) (Q : Int32 → List jH → (Nat → Nat → Int32) → (Nat → Nat → Option Nat) → Prop) (K23 : List jH → (Nat → Nat → Int32) → (Nat → Nat → Option Nat) → Nat → Nat → Nat → Nat → Nat → Int32 → Prop) (sh : List jH) (V : Nat → Nat → Int32) (R : Nat → Nat → Option Nat) (c : Nat) (n : Nat) (x1 : Nat) (x2 : Nat) (x3 : Nat) (x4 : Int32) : Prop :=
  (jReg shX1 sh x1 ∧ (wX1_dearest x1 V (fun r2547 => (jReg shX6 sh x2 ∧ (wX6_dearest x2 V (fun r2551 V2551 => ((r2547 = r2551 → (∀ y3184 : Int32, y3184 = x4 + (6 : Int32) → K23 sh V2551 R c n x1 x2 x3 y3184)) ∧ (¬ r2547 = r2551 → Q (0 : Int32) sh V2551 R))))))))
theorem rL_law_2546 {G : jG} {l : Launch} {d : Nat} (htr : l.stackTraces = false) (hdd : 107 ≤ d) {Q : Int32 → List jH → (Nat → Nat → Int32) → (Nat → Nat → Option Nat) → Prop} {K23 : List jH → (Nat → Nat → Int32) → (Nat → Nat → Option Nat) → Nat → Nat → Nat → Nat → Nat → Int32 → Prop} (hK23 : ∀ (sh : List jH) (V : Nat → Nat → Int32) (R : Nat → Nat → Option Nat) (c : Nat) (n : Nat) (x1 : Nat) (x2 : Nat) (x3 : Nat) (x4 : Int32), K23 sh V R c n x1 x2 x3 x4 → J G l ML_law d c n 23 [(0, .ref 69), (1, .ref x1), (2, .ref x2), (3, .ref x3), (4, .int x4)] [] (mk sh V R) (jSr Q) jNo) {sh : List jH} {V : Nat → Nat → Int32} {R : Nat → Nat → Option Nat} {c : Nat} {n : Nat} {x1 : Nat} {x2 : Nat} {x3 : Nat} {x4 : Int32} (hw : wL_law_2546 G Q K23 sh V R c n x1 x2 x3 x4) : J G l ML_law d c n 2546 [(0, .ref 69), (1, .ref x1), (2, .ref x2), (3, .ref x3), (4, .int x4)] [] (mk sh V R) (jSr Q) jNo := by
  unfold wL_law_2546 at hw
  refine J.aload_n 1 dL_law_2546 rfl ?_
  obtain ⟨hq2547_x1, hw⟩ := hw
  refine uL_279 rfl htr hq2547_x1 dL_law_2547 (by omega) (Nat.le_of_ble_eq_true rfl) hw ?_
  clear hw
  intro r2547 hw
  refine J.aload_n 2 dL_law_2550 rfl ?_
  obtain ⟨hq2551_x2, hw⟩ := hw
  refine uL_282 rfl htr hq2551_x2 dL_law_2551 (by omega) (Nat.le_of_ble_eq_true rfl) hw ?_
  clear hw
  intro r2551 V2551 hw
  refine J.icmp_eq 3184 dL_law_2554 (by decide) ⟨fun c2554 => ?_, fun c2554 => ?_⟩
  · obtain ⟨hw, -⟩ := hw
    specialize hw c2554
    refine J.iincN 4 (K := (6 : Int32)) (lv' := fun y3184 => [(4, .int y3184), (0, .ref 69), (1, .ref x1), (2, .ref x2), (3, .ref x3)]) dL_law_3184 rfl (by decide) (by decide) (fun _ => rfl) hw ?_
    clear hw
    intro y3184 hw
    refine J.goto 23 dL_law_3187 (by decide) ?_
    exact J.pick [1, 2, 3, 4, 0] rfl (hK23 _ _ _ _ _ _ _ _ _ hw)
  · obtain ⟨-, hw⟩ := hw
    specialize hw c2554
    refine J.iconst (v := (0 : Int32)) dL_law_2557 (by decide) ?_
    exact J.zret rfl rfl dL_law_2558 ⟨_, _, _, rfl, _, rfl, hw⟩
def wL_law_2559 (G : jG) (Q : Int32 → List jH → (Nat → Nat → Int32) → (Nat → Nat → Option Nat) → Prop) (K23 : List jH → (Nat → Nat → Int32) → (Nat → Nat → Option Nat) → Nat → Nat → Nat → Nat → Nat → Int32 → Prop) (sh : List jH) (V : Nat → Nat → Int32) (R : Nat → Nat → Option Nat) (c : Nat) (n : Nat) (x1 : Nat) (x2 : Nat) (x3 : Nat) (x4 : Int32) : Prop :=
  (jReg shX1 sh x1 ∧ (wX1_forlorn x1 V (fun r2560 => (jReg shX6 sh x2 ∧ (wX6_forlorn x2 V (fun r2564 V2564 => ((r2560 = r2564 → (∀ y3184 : Int32, y3184 = x4 + (6 : Int32) → K23 sh V2564 R c n x1 x2 x3 y3184)) ∧ (¬ r2560 = r2564 → Q (0 : Int32) sh V2564 R))))))))
theorem rL_law_2559 {G : jG} {l : Launch} {d : Nat} (htr : l.stackTraces = false) (hdd : 107 ≤ d) {Q : Int32 → List jH → (Nat → Nat → Int32) → (Nat → Nat → Option Nat) → Prop} {K23 : List jH → (Nat → Nat → Int32) → (Nat → Nat → Option Nat) → Nat → Nat → Nat → Nat → Nat → Int32 → Prop} (hK23 : ∀ (sh : List jH) (V : Nat → Nat → Int32) (R : Nat → Nat → Option Nat) (c : Nat) (n : Nat) (x1 : Nat) (x2 : Nat) (x3 : Nat) (x4 : Int32), K23 sh V R c n x1 x2 x3 x4 → J G l ML_law d c n 23 [(0, .ref 69), (1, .ref x1), (2, .ref x2), (3, .ref x3), (4, .int x4)] [] (mk sh V R) (jSr Q) jNo) {sh : List jH} {V : Nat → Nat → Int32} {R : Nat → Nat → Option Nat} {c : Nat} {n : Nat} {x1 : Nat} {x2 : Nat} {x3 : Nat} {x4 : Int32} (hw : wL_law_2559 G Q K23 sh V R c n x1 x2 x3 x4) : J G l ML_law d c n 2559 [(0, .ref 69), (1, .ref x1), (2, .ref x2), (3, .ref x3), (4, .int x4)] [] (mk sh V R) (jSr Q) jNo := by
  unfold wL_law_2559 at hw
  refine J.aload_n 1 dL_law_2559 rfl ?_
  obtain ⟨hq2560_x1, hw⟩ := hw
  refine uL_283 rfl htr hq2560_x1 dL_law_2560 (by omega) (Nat.le_of_ble_eq_true rfl) hw ?_
  clear hw
  intro r2560 hw
  refine J.aload_n 2 dL_law_2563 rfl ?_
  obtain ⟨hq2564_x2, hw⟩ := hw
  refine uL_286 rfl htr hq2564_x2 dL_law_2564 (by omega) (Nat.le_of_ble_eq_true rfl) hw ?_
  clear hw
  intro r2564 V2564 hw
  refine J.icmp_eq 3184 dL_law_2567 (by decide) ⟨fun c2567 => ?_, fun c2567 => ?_⟩
  · obtain ⟨hw, -⟩ := hw
    specialize hw c2567
    refine J.iincN 4 (K := (6 : Int32)) (lv' := fun y3184 => [(4, .int y3184), (0, .ref 69), (1, .ref x1), (2, .ref x2), (3, .ref x3)]) dL_law_3184 rfl (by decide) (by decide) (fun _ => rfl) hw ?_
    clear hw
    intro y3184 hw
    refine J.goto 23 dL_law_3187 (by decide) ?_
    exact J.pick [1, 2, 3, 4, 0] rfl (hK23 _ _ _ _ _ _ _ _ _ hw)
  · obtain ⟨-, hw⟩ := hw
    specialize hw c2567
    refine J.iconst (v := (0 : Int32)) dL_law_2570 (by decide) ?_
    exact J.zret rfl rfl dL_law_2571 ⟨_, _, _, rfl, _, rfl, hw⟩
def wL_law_2572 (G : jG) (Q : Int32 → List jH → (Nat → Nat → Int32) → (Nat → Nat → Option Nat) → Prop) (K23 : List jH → (Nat → Nat → Int32) → (Nat → Nat → Option Nat) → Nat → Nat → Nat → Nat → Nat → Int32 → Prop) (sh : List jH) (V : Nat → Nat → Int32) (R : Nat → Nat → Option Nat) (c : Nat) (n : Nat) (x1 : Nat) (x2 : Nat) (x3 : Nat) (x4 : Int32) : Prop :=
  (jReg shX1 sh x1 ∧ (wX1_alike x1 V (fun r2573 => (jReg shX6 sh x2 ∧ (wX6_alike x2 V (fun r2577 V2577 => ((r2573 = r2577 → (∀ y3184 : Int32, y3184 = x4 + (6 : Int32) → K23 sh V2577 R c n x1 x2 x3 y3184)) ∧ (¬ r2573 = r2577 → Q (0 : Int32) sh V2577 R))))))))
theorem rL_law_2572 {G : jG} {l : Launch} {d : Nat} (htr : l.stackTraces = false) (hdd : 107 ≤ d) {Q : Int32 → List jH → (Nat → Nat → Int32) → (Nat → Nat → Option Nat) → Prop} {K23 : List jH → (Nat → Nat → Int32) → (Nat → Nat → Option Nat) → Nat → Nat → Nat → Nat → Nat → Int32 → Prop} (hK23 : ∀ (sh : List jH) (V : Nat → Nat → Int32) (R : Nat → Nat → Option Nat) (c : Nat) (n : Nat) (x1 : Nat) (x2 : Nat) (x3 : Nat) (x4 : Int32), K23 sh V R c n x1 x2 x3 x4 → J G l ML_law d c n 23 [(0, .ref 69), (1, .ref x1), (2, .ref x2), (3, .ref x3), (4, .int x4)] [] (mk sh V R) (jSr Q) jNo) {sh : List jH} {V : Nat → Nat → Int32} {R : Nat → Nat → Option Nat} {c : Nat} {n : Nat} {x1 : Nat} {x2 : Nat} {x3 : Nat} {x4 : Int32} (hw : wL_law_2572 G Q K23 sh V R c n x1 x2 x3 x4) : J G l ML_law d c n 2572 [(0, .ref 69), (1, .ref x1), (2, .ref x2), (3, .ref x3), (4, .int x4)] [] (mk sh V R) (jSr Q) jNo := by
  unfold wL_law_2572 at hw
  refine J.aload_n 1 dL_law_2572 rfl ?_
  obtain ⟨hq2573_x1, hw⟩ := hw
  refine uL_287 rfl htr hq2573_x1 dL_law_2573 (by omega) (Nat.le_of_ble_eq_true rfl) hw ?_
  clear hw
  intro r2573 hw
  refine J.aload_n 2 dL_law_2576 rfl ?_
  obtain ⟨hq2577_x2, hw⟩ := hw
  refine uL_290 rfl htr hq2577_x2 dL_law_2577 (by omega) (Nat.le_of_ble_eq_true rfl) hw ?_
  clear hw
  intro r2577 V2577 hw
  refine J.icmp_eq 3184 dL_law_2580 (by decide) ⟨fun c2580 => ?_, fun c2580 => ?_⟩
  · obtain ⟨hw, -⟩ := hw
    specialize hw c2580
    refine J.iincN 4 (K := (6 : Int32)) (lv' := fun y3184 => [(4, .int y3184), (0, .ref 69), (1, .ref x1), (2, .ref x2), (3, .ref x3)]) dL_law_3184 rfl (by decide) (by decide) (fun _ => rfl) hw ?_
    clear hw
    intro y3184 hw
    refine J.goto 23 dL_law_3187 (by decide) ?_
    exact J.pick [1, 2, 3, 4, 0] rfl (hK23 _ _ _ _ _ _ _ _ _ hw)
  · obtain ⟨-, hw⟩ := hw
    specialize hw c2580
    refine J.iconst (v := (0 : Int32)) dL_law_2583 (by decide) ?_
    exact J.zret rfl rfl dL_law_2584 ⟨_, _, _, rfl, _, rfl, hw⟩
def wL_law_2585 (G : jG) (Q : Int32 → List jH → (Nat → Nat → Int32) → (Nat → Nat → Option Nat) → Prop) (K23 : List jH → (Nat → Nat → Int32) → (Nat → Nat → Option Nat) → Nat → Nat → Nat → Nat → Nat → Int32 → Prop) (sh : List jH) (V : Nat → Nat → Int32) (R : Nat → Nat → Option Nat) (c : Nat) (n : Nat) (x1 : Nat) (x2 : Nat) (x3 : Nat) (x4 : Int32) : Prop :=
  (vp_in (x4 + (1 : Int32)) (jScN G) ∧ (jReg shX1 sh x1 ∧ (∃ c12593 n12593 c22593 n22593 : Nat, c12593 + c22593 ≤ c ∧ n12593 + n22593 ≤ n ∧ (wX0_settle x1 sh V R c12593 n12593 (jScF G (x4 + (1 : Int32)).toNatClampNeg) x3 (fun r2593 sh2593 V2593 R2593 => (vp_in (x4 + (1 : Int32)) (jScN G) ∧ (jReg shX6 sh2593 x2 ∧ (wX6_settle x2 sh2593 R2593 V2593 (jScF G (x4 + (1 : Int32)).toNatClampNeg) (fun r2605 V2605 => (jReg shX6 sh2593 x2 ∧ (wX6_thrown x2 V2605 (fun r2611 => ((r2611 = r2593 → ((¬ r2593 = 0 → (∀ y3184 : Int32, y3184 = x4 + (6 : Int32) → K23 sh2593 V2605 R2593 c22593 n22593 x1 x2 x3 y3184)) ∧ (r2593 = 0 → (∃ f2628 : Nat → Int64, sh2593[x3]? = some (jF (.inl (3, 1, .inr (.inl f2628)))) ∧ jn ≤ x3 ∧ (((lg_cmp (f2628 0) r2605.toInt64) = 0 → (∀ y3184 : Int32, y3184 = x4 + (6 : Int32) → K23 sh2593 V2605 R2593 c22593 n22593 x1 x2 x3 y3184)) ∧ (¬ (lg_cmp (f2628 0) r2605.toInt64) = 0 → Q (0 : Int32) sh2593 V2605 R2593)))))) ∧ (¬ r2611 = r2593 → Q (0 : Int32) sh2593 V2605 R2593))))))))))))))
theorem rL_law_2585 {G : jG} {l : Launch} {d : Nat} (htr : l.stackTraces = false) (hdd : 107 ≤ d) {Q : Int32 → List jH → (Nat → Nat → Int32) → (Nat → Nat → Option Nat) → Prop} {K23 : List jH → (Nat → Nat → Int32) → (Nat → Nat → Option Nat) → Nat → Nat → Nat → Nat → Nat → Int32 → Prop} (hK23 : ∀ (sh : List jH) (V : Nat → Nat → Int32) (R : Nat → Nat → Option Nat) (c : Nat) (n : Nat) (x1 : Nat) (x2 : Nat) (x3 : Nat) (x4 : Int32), K23 sh V R c n x1 x2 x3 x4 → J G l ML_law d c n 23 [(0, .ref 69), (1, .ref x1), (2, .ref x2), (3, .ref x3), (4, .int x4)] [] (mk sh V R) (jSr Q) jNo) {sh : List jH} {V : Nat → Nat → Int32} {R : Nat → Nat → Option Nat} {c : Nat} {n : Nat} {x1 : Nat} {x2 : Nat} {x3 : Nat} {x4 : Int32} (hw : wL_law_2585 G Q K23 sh V R c n x1 x2 x3 x4) : J G l ML_law d c n 2585 [(0, .ref 69), (1, .ref x1), (2, .ref x2), (3, .ref x3), (4, .int x4)] [] (mk sh V R) (jSr Q) jNo := by
  unfold wL_law_2585 at hw
  refine J.aload_n 1 dL_law_2585 rfl ?_
  refine J.aload_n 0 dL_law_2586 rfl ?_
  refine J.iload 4 dL_law_2587 rfl ?_
  refine J.iconst (v := (1 : Int32)) dL_law_2589 (by decide) ?_
  refine J.iadd dL_law_2590 ?_
  obtain ⟨h2591, hw⟩ := hw
  refine J.sld dL_law_2591 h2591 ?_
  refine J.aload_n 3 dL_law_2592 rfl ?_
  obtain ⟨hq2593_x1, hw⟩ := hw
  obtain ⟨c12593, n12593, c22593, n22593, hc2593, hd2593, hw⟩ := hw
  refine uL_291 rfl htr hq2593_x1 dL_law_2593 (by omega) (Nat.le_of_ble_eq_true rfl) hw ⟨hc2593, hd2593⟩ ?_
  clear hw
  intro r2593 sh2593 V2593 R2593 hw
  refine J.istore (lv' := [(5, .int r2593), (0, .ref 69), (1, .ref x1), (2, .ref x2), (3, .ref x3), (4, .int x4)]) dL_law_2596 (by decide) rfl ?_
  refine J.aload_n 3 dL_law_2598 rfl ?_
  refine J.aload_n 1 dL_law_2599 rfl ?_
  refine J.iload 5 dL_law_2600 rfl ?_
  refine J.iconst (v := (1 : Int32)) dL_law_2602 (by decide) ?_
  refine J.iadd dL_law_2603 ?_
  obtain ⟨h2604, hw⟩ := hw
  refine J.sld dL_law_2604 h2604 ?_
  obtain ⟨hq2605_x2, hw⟩ := hw
  refine uL_293 rfl htr hq2605_x2 dL_law_2605 (by omega) (Nat.le_of_ble_eq_true rfl) hw ?_
  clear hw
  intro r2605 V2605 hw
  refine J.istore (lv' := [(6, .int r2605), (5, .int r2593), (0, .ref 69), (1, .ref x1), (2, .ref x2), (3, .ref x3), (4, .int x4)]) dL_law_2608 (by decide) rfl ?_
  refine J.aload_n 4 dL_law_2610 rfl ?_
  obtain ⟨hq2611_x2, hw⟩ := hw
  refine uL_159 rfl htr hq2611_x2 dL_law_2611 (by omega) (Nat.le_of_ble_eq_true rfl) hw ?_
  clear hw
  intro r2611 hw
  refine J.iload 1 dL_law_2614 rfl ?_
  refine J.icmp_eq 2621 dL_law_2616 (by decide) ⟨fun c2616 => ?_, fun c2616 => ?_⟩
  · obtain ⟨hw, -⟩ := hw
    specialize hw c2616
    refine J.iload 1 dL_law_2621 rfl ?_
    refine J.if_ne 2638 dL_law_2623 (by decide) ⟨fun c2623 => ?_, fun c2623 => ?_⟩
    · obtain ⟨hw, -⟩ := hw
      specialize hw c2623
      refine J.goto 3184 dL_law_2638 (by decide) ?_
      refine J.iincN 6 (K := (6 : Int32)) (lv' := fun y3184 => [(4, .int y3184), (6, .int r2605), (5, .int r2593), (0, .ref 69), (1, .ref x1), (2, .ref x2), (3, .ref x3)]) dL_law_3184 rfl (by decide) (by decide) (fun _ => rfl) hw ?_
      clear hw
      intro y3184 hw
      refine J.goto 23 dL_law_3187 (by decide) ?_
      exact J.pick [3, 4, 5, 6, 0] rfl (hK23 _ _ _ _ _ _ _ _ _ hw)
    · obtain ⟨-, hw⟩ := hw
      specialize hw c2623
      refine J.aload_n 5 dL_law_2626 rfl ?_
      refine J.iconst (v := (0 : Int32)) dL_law_2627 (by decide) ?_
      obtain ⟨f2628, hk2628, hn2628, hw⟩ := hw
      refine JV.lald0 dL_law_2628 hn2628 hk2628 ?_
      refine J.iload 0 dL_law_2629 rfl ?_
      refine J.i2l dL_law_2631 ?_
      refine J.lcmp dL_law_2632 ?_
      refine J.if_eq 2638 dL_law_2633 (by decide) ⟨fun c2633 => ?_, fun c2633 => ?_⟩
      · obtain ⟨hw, -⟩ := hw
        specialize hw c2633
        refine J.goto 3184 dL_law_2638 (by decide) ?_
        refine J.iincN 6 (K := (6 : Int32)) (lv' := fun y3184 => [(4, .int y3184), (6, .int r2605), (5, .int r2593), (0, .ref 69), (1, .ref x1), (2, .ref x2), (3, .ref x3)]) dL_law_3184 rfl (by decide) (by decide) (fun _ => rfl) hw ?_
        clear hw
        intro y3184 hw
        refine J.goto 23 dL_law_3187 (by decide) ?_
        exact J.pick [3, 4, 5, 6, 0] rfl (hK23 _ _ _ _ _ _ _ _ _ hw)
      · obtain ⟨-, hw⟩ := hw
        specialize hw c2633
        refine J.iconst (v := (0 : Int32)) dL_law_2636 (by decide) ?_
        exact J.zret rfl rfl dL_law_2637 ⟨_, _, _, rfl, _, rfl, hw⟩
  · obtain ⟨-, hw⟩ := hw
    specialize hw c2616
    refine J.iconst (v := (0 : Int32)) dL_law_2619 (by decide) ?_
    exact J.zret rfl rfl dL_law_2620 ⟨_, _, _, rfl, _, rfl, hw⟩
def wL_law_2641 (G : jG) (Q : Int32 → List jH → (Nat → Nat → Int32) → (Nat → Nat → Option Nat) → Prop) (K23 : List jH → (Nat → Nat → Int32) → (Nat → Nat → Option Nat) → Nat → Nat → Nat → Nat → Nat → Int32 → Prop) (sh : List jH) (V : Nat → Nat → Int32) (R : Nat → Nat → Option Nat) (c : Nat) (n : Nat) (x1 : Nat) (x2 : Nat) (x3 : Nat) (x4 : Int32) : Prop :=
  (vp_in (x4 + (1 : Int32)) (jScN G) ∧ (jReg shX1 sh x1 ∧ (∃ c12649 n12649 c22649 n22649 : Nat, c12649 + c22649 ≤ c ∧ n12649 + n22649 ≤ n ∧ (wX0_gladder x1 sh V R c12649 n12649 (jScF G (x4 + (1 : Int32)).toNatClampNeg) x3 (fun r2649 sh2649 V2649 R2649 => (vp_in (x4 + (1 : Int32)) (jScN G) ∧ (jReg shX6 sh2649 x2 ∧ (wX6_gladder x2 sh2649 R2649 V2649 (jScF G (x4 + (1 : Int32)).toNatClampNeg) (fun r2661 V2661 => (jReg shX6 sh2649 x2 ∧ (wX6_thrown x2 V2661 (fun r2667 => ((r2667 = r2649 → ((¬ r2649 = 0 → (∀ y3184 : Int32, y3184 = x4 + (6 : Int32) → K23 sh2649 V2661 R2649 c22649 n22649 x1 x2 x3 y3184)) ∧ (r2649 = 0 → (∃ f2684 : Nat → Int64, sh2649[x3]? = some (jF (.inl (3, 1, .inr (.inl f2684)))) ∧ jn ≤ x3 ∧ (((lg_cmp (f2684 0) r2661.toInt64) = 0 → (∀ y3184 : Int32, y3184 = x4 + (6 : Int32) → K23 sh2649 V2661 R2649 c22649 n22649 x1 x2 x3 y3184)) ∧ (¬ (lg_cmp (f2684 0) r2661.toInt64) = 0 → Q (0 : Int32) sh2649 V2661 R2649)))))) ∧ (¬ r2667 = r2649 → Q (0 : Int32) sh2649 V2661 R2649))))))))))))))
theorem rL_law_2641 {G : jG} {l : Launch} {d : Nat} (htr : l.stackTraces = false) (hdd : 107 ≤ d) {Q : Int32 → List jH → (Nat → Nat → Int32) → (Nat → Nat → Option Nat) → Prop} {K23 : List jH → (Nat → Nat → Int32) → (Nat → Nat → Option Nat) → Nat → Nat → Nat → Nat → Nat → Int32 → Prop} (hK23 : ∀ (sh : List jH) (V : Nat → Nat → Int32) (R : Nat → Nat → Option Nat) (c : Nat) (n : Nat) (x1 : Nat) (x2 : Nat) (x3 : Nat) (x4 : Int32), K23 sh V R c n x1 x2 x3 x4 → J G l ML_law d c n 23 [(0, .ref 69), (1, .ref x1), (2, .ref x2), (3, .ref x3), (4, .int x4)] [] (mk sh V R) (jSr Q) jNo) {sh : List jH} {V : Nat → Nat → Int32} {R : Nat → Nat → Option Nat} {c : Nat} {n : Nat} {x1 : Nat} {x2 : Nat} {x3 : Nat} {x4 : Int32} (hw : wL_law_2641 G Q K23 sh V R c n x1 x2 x3 x4) : J G l ML_law d c n 2641 [(0, .ref 69), (1, .ref x1), (2, .ref x2), (3, .ref x3), (4, .int x4)] [] (mk sh V R) (jSr Q) jNo := by
  unfold wL_law_2641 at hw
  refine J.aload_n 1 dL_law_2641 rfl ?_
  refine J.aload_n 0 dL_law_2642 rfl ?_
  refine J.iload 4 dL_law_2643 rfl ?_
  refine J.iconst (v := (1 : Int32)) dL_law_2645 (by decide) ?_
  refine J.iadd dL_law_2646 ?_
  obtain ⟨h2647, hw⟩ := hw
  refine J.sld dL_law_2647 h2647 ?_
  refine J.aload_n 3 dL_law_2648 rfl ?_
  obtain ⟨hq2649_x1, hw⟩ := hw
  obtain ⟨c12649, n12649, c22649, n22649, hc2649, hd2649, hw⟩ := hw
  refine uL_294 rfl htr hq2649_x1 dL_law_2649 (by omega) (Nat.le_of_ble_eq_true rfl) hw ⟨hc2649, hd2649⟩ ?_
  clear hw
  intro r2649 sh2649 V2649 R2649 hw
  refine J.istore (lv' := [(5, .int r2649), (0, .ref 69), (1, .ref x1), (2, .ref x2), (3, .ref x3), (4, .int x4)]) dL_law_2652 (by decide) rfl ?_
  refine J.aload_n 3 dL_law_2654 rfl ?_
  refine J.aload_n 1 dL_law_2655 rfl ?_
  refine J.iload 5 dL_law_2656 rfl ?_
  refine J.iconst (v := (1 : Int32)) dL_law_2658 (by decide) ?_
  refine J.iadd dL_law_2659 ?_
  obtain ⟨h2660, hw⟩ := hw
  refine J.sld dL_law_2660 h2660 ?_
  obtain ⟨hq2661_x2, hw⟩ := hw
  refine uL_296 rfl htr hq2661_x2 dL_law_2661 (by omega) (Nat.le_of_ble_eq_true rfl) hw ?_
  clear hw
  intro r2661 V2661 hw
  refine J.istore (lv' := [(6, .int r2661), (5, .int r2649), (0, .ref 69), (1, .ref x1), (2, .ref x2), (3, .ref x3), (4, .int x4)]) dL_law_2664 (by decide) rfl ?_
  refine J.aload_n 4 dL_law_2666 rfl ?_
  obtain ⟨hq2667_x2, hw⟩ := hw
  refine uL_159 rfl htr hq2667_x2 dL_law_2667 (by omega) (Nat.le_of_ble_eq_true rfl) hw ?_
  clear hw
  intro r2667 hw
  refine J.iload 1 dL_law_2670 rfl ?_
  refine J.icmp_eq 2677 dL_law_2672 (by decide) ⟨fun c2672 => ?_, fun c2672 => ?_⟩
  · obtain ⟨hw, -⟩ := hw
    specialize hw c2672
    refine J.iload 1 dL_law_2677 rfl ?_
    refine J.if_ne 2694 dL_law_2679 (by decide) ⟨fun c2679 => ?_, fun c2679 => ?_⟩
    · obtain ⟨hw, -⟩ := hw
      specialize hw c2679
      refine J.goto 3184 dL_law_2694 (by decide) ?_
      refine J.iincN 6 (K := (6 : Int32)) (lv' := fun y3184 => [(4, .int y3184), (6, .int r2661), (5, .int r2649), (0, .ref 69), (1, .ref x1), (2, .ref x2), (3, .ref x3)]) dL_law_3184 rfl (by decide) (by decide) (fun _ => rfl) hw ?_
      clear hw
      intro y3184 hw
      refine J.goto 23 dL_law_3187 (by decide) ?_
      exact J.pick [3, 4, 5, 6, 0] rfl (hK23 _ _ _ _ _ _ _ _ _ hw)
    · obtain ⟨-, hw⟩ := hw
      specialize hw c2679
      refine J.aload_n 5 dL_law_2682 rfl ?_
      refine J.iconst (v := (0 : Int32)) dL_law_2683 (by decide) ?_
      obtain ⟨f2684, hk2684, hn2684, hw⟩ := hw
      refine JV.lald0 dL_law_2684 hn2684 hk2684 ?_
      refine J.iload 0 dL_law_2685 rfl ?_
      refine J.i2l dL_law_2687 ?_
      refine J.lcmp dL_law_2688 ?_
      refine J.if_eq 2694 dL_law_2689 (by decide) ⟨fun c2689 => ?_, fun c2689 => ?_⟩
      · obtain ⟨hw, -⟩ := hw
        specialize hw c2689
        refine J.goto 3184 dL_law_2694 (by decide) ?_
        refine J.iincN 6 (K := (6 : Int32)) (lv' := fun y3184 => [(4, .int y3184), (6, .int r2661), (5, .int r2649), (0, .ref 69), (1, .ref x1), (2, .ref x2), (3, .ref x3)]) dL_law_3184 rfl (by decide) (by decide) (fun _ => rfl) hw ?_
        clear hw
        intro y3184 hw
        refine J.goto 23 dL_law_3187 (by decide) ?_
        exact J.pick [3, 4, 5, 6, 0] rfl (hK23 _ _ _ _ _ _ _ _ _ hw)
      · obtain ⟨-, hw⟩ := hw
        specialize hw c2689
        refine J.iconst (v := (0 : Int32)) dL_law_2692 (by decide) ?_
        exact J.zret rfl rfl dL_law_2693 ⟨_, _, _, rfl, _, rfl, hw⟩
  · obtain ⟨-, hw⟩ := hw
    specialize hw c2672
    refine J.iconst (v := (0 : Int32)) dL_law_2675 (by decide) ?_
    exact J.zret rfl rfl dL_law_2676 ⟨_, _, _, rfl, _, rfl, hw⟩
def wL_law_2697 (G : jG) (Q : Int32 → List jH → (Nat → Nat → Int32) → (Nat → Nat → Option Nat) → Prop) (K23 : List jH → (Nat → Nat → Int32) → (Nat → Nat → Option Nat) → Nat → Nat → Nat → Nat → Nat → Int32 → Prop) (sh : List jH) (V : Nat → Nat → Int32) (R : Nat → Nat → Option Nat) (c : Nat) (n : Nat) (x1 : Nat) (x2 : Nat) (x3 : Nat) (x4 : Int32) : Prop :=
  (vp_in (x4 + (1 : Int32)) (jScN G) ∧ (vp_in (x4 + (2 : Int32)) (jScN G) ∧ (vp_in (x4 + (3 : Int32)) (jScN G) ∧ (jReg shX1 sh x1 ∧ (∃ c12717 n12717 c22717 n22717 : Nat, c12717 + c22717 ≤ c ∧ n12717 + n22717 ≤ n ∧ (wX0_ahead x1 sh V R c12717 n12717 (jScF G (x4 + (1 : Int32)).toNatClampNeg) (jScF G (x4 + (2 : Int32)).toNatClampNeg) (jScF G (x4 + (3 : Int32)).toNatClampNeg) x3 (fun r2717 sh2717 V2717 R2717 => (vp_in (x4 + (1 : Int32)) (jScN G) ∧ (vp_in (x4 + (2 : Int32)) (jScN G) ∧ (vp_in (x4 + (3 : Int32)) (jScN G) ∧ (jReg shX6 sh2717 x2 ∧ (wX6_ahead x2 sh2717 R2717 V2717 (jScF G (x4 + (1 : Int32)).toNatClampNeg) (jScF G (x4 + (2 : Int32)).toNatClampNeg) (jScF G (x4 + (3 : Int32)).toNatClampNeg) (fun r2741 V2741 => (jReg shX6 sh2717 x2 ∧ (wX6_thrown x2 V2741 (fun r2747 => ((r2747 = r2717 → ((¬ r2717 = 0 → (∀ y3184 : Int32, y3184 = x4 + (6 : Int32) → K23 sh2717 V2741 R2717 c22717 n22717 x1 x2 x3 y3184)) ∧ (r2717 = 0 → (∃ f2764 : Nat → Int64, sh2717[x3]? = some (jF (.inl (3, 1, .inr (.inl f2764)))) ∧ jn ≤ x3 ∧ (((lg_cmp (f2764 0) r2741.toInt64) = 0 → (∀ y3184 : Int32, y3184 = x4 + (6 : Int32) → K23 sh2717 V2741 R2717 c22717 n22717 x1 x2 x3 y3184)) ∧ (¬ (lg_cmp (f2764 0) r2741.toInt64) = 0 → Q (0 : Int32) sh2717 V2741 R2717)))))) ∧ (¬ r2747 = r2717 → Q (0 : Int32) sh2717 V2741 R2717))))))))))))))))))
theorem rL_law_2697 {G : jG} {l : Launch} {d : Nat} (htr : l.stackTraces = false) (hdd : 107 ≤ d) {Q : Int32 → List jH → (Nat → Nat → Int32) → (Nat → Nat → Option Nat) → Prop} {K23 : List jH → (Nat → Nat → Int32) → (Nat → Nat → Option Nat) → Nat → Nat → Nat → Nat → Nat → Int32 → Prop} (hK23 : ∀ (sh : List jH) (V : Nat → Nat → Int32) (R : Nat → Nat → Option Nat) (c : Nat) (n : Nat) (x1 : Nat) (x2 : Nat) (x3 : Nat) (x4 : Int32), K23 sh V R c n x1 x2 x3 x4 → J G l ML_law d c n 23 [(0, .ref 69), (1, .ref x1), (2, .ref x2), (3, .ref x3), (4, .int x4)] [] (mk sh V R) (jSr Q) jNo) {sh : List jH} {V : Nat → Nat → Int32} {R : Nat → Nat → Option Nat} {c : Nat} {n : Nat} {x1 : Nat} {x2 : Nat} {x3 : Nat} {x4 : Int32} (hw : wL_law_2697 G Q K23 sh V R c n x1 x2 x3 x4) : J G l ML_law d c n 2697 [(0, .ref 69), (1, .ref x1), (2, .ref x2), (3, .ref x3), (4, .int x4)] [] (mk sh V R) (jSr Q) jNo := by
  unfold wL_law_2697 at hw
  refine J.aload_n 1 dL_law_2697 rfl ?_
  refine J.aload_n 0 dL_law_2698 rfl ?_
  refine J.iload 4 dL_law_2699 rfl ?_
  refine J.iconst (v := (1 : Int32)) dL_law_2701 (by decide) ?_
  refine J.iadd dL_law_2702 ?_
  obtain ⟨h2703, hw⟩ := hw
  refine J.sld dL_law_2703 h2703 ?_
  refine J.aload_n 0 dL_law_2704 rfl ?_
  refine J.iload 4 dL_law_2705 rfl ?_
  refine J.iconst (v := (2 : Int32)) dL_law_2707 (by decide) ?_
  refine J.iadd dL_law_2708 ?_
  obtain ⟨h2709, hw⟩ := hw
  refine J.sld dL_law_2709 h2709 ?_
  refine J.aload_n 0 dL_law_2710 rfl ?_
  refine J.iload 4 dL_law_2711 rfl ?_
  refine J.iconst (v := (3 : Int32)) dL_law_2713 (by decide) ?_
  refine J.iadd dL_law_2714 ?_
  obtain ⟨h2715, hw⟩ := hw
  refine J.sld dL_law_2715 h2715 ?_
  refine J.aload_n 3 dL_law_2716 rfl ?_
  obtain ⟨hq2717_x1, hw⟩ := hw
  obtain ⟨c12717, n12717, c22717, n22717, hc2717, hd2717, hw⟩ := hw
  refine uL_297 rfl htr hq2717_x1 dL_law_2717 (by omega) (Nat.le_of_ble_eq_true rfl) hw ⟨hc2717, hd2717⟩ ?_
  clear hw
  intro r2717 sh2717 V2717 R2717 hw
  refine J.istore (lv' := [(5, .int r2717), (0, .ref 69), (1, .ref x1), (2, .ref x2), (3, .ref x3), (4, .int x4)]) dL_law_2720 (by decide) rfl ?_
  refine J.aload_n 3 dL_law_2722 rfl ?_
  refine J.aload_n 1 dL_law_2723 rfl ?_
  refine J.iload 5 dL_law_2724 rfl ?_
  refine J.iconst (v := (1 : Int32)) dL_law_2726 (by decide) ?_
  refine J.iadd dL_law_2727 ?_
  obtain ⟨h2728, hw⟩ := hw
  refine J.sld dL_law_2728 h2728 ?_
  refine J.aload_n 1 dL_law_2729 rfl ?_
  refine J.iload 5 dL_law_2730 rfl ?_
  refine J.iconst (v := (2 : Int32)) dL_law_2732 (by decide) ?_
  refine J.iadd dL_law_2733 ?_
  obtain ⟨h2734, hw⟩ := hw
  refine J.sld dL_law_2734 h2734 ?_
  refine J.aload_n 1 dL_law_2735 rfl ?_
  refine J.iload 5 dL_law_2736 rfl ?_
  refine J.iconst (v := (3 : Int32)) dL_law_2738 (by decide) ?_
  refine J.iadd dL_law_2739 ?_
  obtain ⟨h2740, hw⟩ := hw
  refine J.sld dL_law_2740 h2740 ?_
  obtain ⟨hq2741_x2, hw⟩ := hw
  refine uL_299 rfl htr hq2741_x2 dL_law_2741 (by omega) (Nat.le_of_ble_eq_true rfl) hw ?_
  clear hw
  intro r2741 V2741 hw
  refine J.istore (lv' := [(6, .int r2741), (5, .int r2717), (0, .ref 69), (1, .ref x1), (2, .ref x2), (3, .ref x3), (4, .int x4)]) dL_law_2744 (by decide) rfl ?_
  refine J.aload_n 4 dL_law_2746 rfl ?_
  obtain ⟨hq2747_x2, hw⟩ := hw
  refine uL_159 rfl htr hq2747_x2 dL_law_2747 (by omega) (Nat.le_of_ble_eq_true rfl) hw ?_
  clear hw
  intro r2747 hw
  refine J.iload 1 dL_law_2750 rfl ?_
  refine J.icmp_eq 2757 dL_law_2752 (by decide) ⟨fun c2752 => ?_, fun c2752 => ?_⟩
  · obtain ⟨hw, -⟩ := hw
    specialize hw c2752
    refine J.iload 1 dL_law_2757 rfl ?_
    refine J.if_ne 2774 dL_law_2759 (by decide) ⟨fun c2759 => ?_, fun c2759 => ?_⟩
    · obtain ⟨hw, -⟩ := hw
      specialize hw c2759
      refine J.goto 3184 dL_law_2774 (by decide) ?_
      refine J.iincN 6 (K := (6 : Int32)) (lv' := fun y3184 => [(4, .int y3184), (6, .int r2741), (5, .int r2717), (0, .ref 69), (1, .ref x1), (2, .ref x2), (3, .ref x3)]) dL_law_3184 rfl (by decide) (by decide) (fun _ => rfl) hw ?_
      clear hw
      intro y3184 hw
      refine J.goto 23 dL_law_3187 (by decide) ?_
      exact J.pick [3, 4, 5, 6, 0] rfl (hK23 _ _ _ _ _ _ _ _ _ hw)
    · obtain ⟨-, hw⟩ := hw
      specialize hw c2759
      refine J.aload_n 5 dL_law_2762 rfl ?_
      refine J.iconst (v := (0 : Int32)) dL_law_2763 (by decide) ?_
      obtain ⟨f2764, hk2764, hn2764, hw⟩ := hw
      refine JV.lald0 dL_law_2764 hn2764 hk2764 ?_
      refine J.iload 0 dL_law_2765 rfl ?_
      refine J.i2l dL_law_2767 ?_
      refine J.lcmp dL_law_2768 ?_
      refine J.if_eq 2774 dL_law_2769 (by decide) ⟨fun c2769 => ?_, fun c2769 => ?_⟩
      · obtain ⟨hw, -⟩ := hw
        specialize hw c2769
        refine J.goto 3184 dL_law_2774 (by decide) ?_
        refine J.iincN 6 (K := (6 : Int32)) (lv' := fun y3184 => [(4, .int y3184), (6, .int r2741), (5, .int r2717), (0, .ref 69), (1, .ref x1), (2, .ref x2), (3, .ref x3)]) dL_law_3184 rfl (by decide) (by decide) (fun _ => rfl) hw ?_
        clear hw
        intro y3184 hw
        refine J.goto 23 dL_law_3187 (by decide) ?_
        exact J.pick [3, 4, 5, 6, 0] rfl (hK23 _ _ _ _ _ _ _ _ _ hw)
      · obtain ⟨-, hw⟩ := hw
        specialize hw c2769
        refine J.iconst (v := (0 : Int32)) dL_law_2772 (by decide) ?_
        exact J.zret rfl rfl dL_law_2773 ⟨_, _, _, rfl, _, rfl, hw⟩
  · obtain ⟨-, hw⟩ := hw
    specialize hw c2752
    refine J.iconst (v := (0 : Int32)) dL_law_2755 (by decide) ?_
    exact J.zret rfl rfl dL_law_2756 ⟨_, _, _, rfl, _, rfl, hw⟩
def wL_law_2825 (G : jG) (Q : Int32 → List jH → (Nat → Nat → Int32) → (Nat → Nat → Option Nat) → Prop) (K23 : List jH → (Nat → Nat → Int32) → (Nat → Nat → Option Nat) → Nat → Nat → Nat → Nat → Nat → Int32 → Prop) (sh : List jH) (V : Nat → Nat → Int32) (R : Nat → Nat → Option Nat) (c : Nat) (n : Nat) (x1 : Nat) (x2 : Nat) (x3 : Nat) (x4 : Int32) (x5 : Int32) (s0 : Nat) (s1 : Int32) (s2 : Int32) : Prop :=
  (jReg shX6 sh s0 ∧ (wX6_trial s0 sh R V s1 s2 (fun r2825 V2825 => (jReg shX6 sh x2 ∧ (wX6_thrown x2 V2825 (fun r2831 => ((r2831 = x5 → ((¬ x5 = 0 → (∀ y3184 : Int32, y3184 = x4 + (6 : Int32) → K23 sh V2825 R c n x1 x2 x3 y3184)) ∧ (x5 = 0 → (∃ f2848 : Nat → Int64, sh[x3]? = some (jF (.inl (3, 1, .inr (.inl f2848)))) ∧ jn ≤ x3 ∧ (((lg_cmp (f2848 0) r2825.toInt64) = 0 → (∀ y3184 : Int32, y3184 = x4 + (6 : Int32) → K23 sh V2825 R c n x1 x2 x3 y3184)) ∧ (¬ (lg_cmp (f2848 0) r2825.toInt64) = 0 → Q (0 : Int32) sh V2825 R)))))) ∧ (¬ r2831 = x5 → Q (0 : Int32) sh V2825 R))))))))
theorem rL_law_2825 {G : jG} {l : Launch} {d : Nat} (htr : l.stackTraces = false) (hdd : 107 ≤ d) {Q : Int32 → List jH → (Nat → Nat → Int32) → (Nat → Nat → Option Nat) → Prop} {K23 : List jH → (Nat → Nat → Int32) → (Nat → Nat → Option Nat) → Nat → Nat → Nat → Nat → Nat → Int32 → Prop} (hK23 : ∀ (sh : List jH) (V : Nat → Nat → Int32) (R : Nat → Nat → Option Nat) (c : Nat) (n : Nat) (x1 : Nat) (x2 : Nat) (x3 : Nat) (x4 : Int32), K23 sh V R c n x1 x2 x3 x4 → J G l ML_law d c n 23 [(0, .ref 69), (1, .ref x1), (2, .ref x2), (3, .ref x3), (4, .int x4)] [] (mk sh V R) (jSr Q) jNo) {sh : List jH} {V : Nat → Nat → Int32} {R : Nat → Nat → Option Nat} {c : Nat} {n : Nat} {x1 : Nat} {x2 : Nat} {x3 : Nat} {x4 : Int32} {x5 : Int32} {s0 : Nat} {s1 : Int32} {s2 : Int32} (hw : wL_law_2825 G Q K23 sh V R c n x1 x2 x3 x4 x5 s0 s1 s2) : J G l ML_law d c n 2825 [(0, .ref 69), (1, .ref x1), (2, .ref x2), (3, .ref x3), (4, .int x4), (5, .int x5)] [.int s2, .int s1, .ref s0] (mk sh V R) (jSr Q) jNo := by
  unfold wL_law_2825 at hw
  obtain ⟨hq2825_s0, hw⟩ := hw
  refine uL_303 rfl htr hq2825_s0 dL_law_2825 (by omega) (Nat.le_of_ble_eq_true rfl) hw ?_
  clear hw
  intro r2825 V2825 hw
  refine J.istore (lv' := [(6, .int r2825), (0, .ref 69), (1, .ref x1), (2, .ref x2), (3, .ref x3), (4, .int x4), (5, .int x5)]) dL_law_2828 (by decide) rfl ?_
  refine J.aload_n 3 dL_law_2830 rfl ?_
  obtain ⟨hq2831_x2, hw⟩ := hw
  refine uL_159 rfl htr hq2831_x2 dL_law_2831 (by omega) (Nat.le_of_ble_eq_true rfl) hw ?_
  clear hw
  intro r2831 hw
  refine J.iload 6 dL_law_2834 rfl ?_
  refine J.icmp_eq 2841 dL_law_2836 (by decide) ⟨fun c2836 => ?_, fun c2836 => ?_⟩
  · obtain ⟨hw, -⟩ := hw
    specialize hw c2836
    refine J.iload 6 dL_law_2841 rfl ?_
    refine J.if_ne 2858 dL_law_2843 (by decide) ⟨fun c2843 => ?_, fun c2843 => ?_⟩
    · obtain ⟨hw, -⟩ := hw
      specialize hw c2843
      refine J.goto 3184 dL_law_2858 (by decide) ?_
      refine J.iincN 5 (K := (6 : Int32)) (lv' := fun y3184 => [(4, .int y3184), (6, .int r2825), (0, .ref 69), (1, .ref x1), (2, .ref x2), (3, .ref x3), (5, .int x5)]) dL_law_3184 rfl (by decide) (by decide) (fun _ => rfl) hw ?_
      clear hw
      intro y3184 hw
      refine J.goto 23 dL_law_3187 (by decide) ?_
      exact J.pick [2, 3, 4, 5, 0] rfl (hK23 _ _ _ _ _ _ _ _ _ hw)
    · obtain ⟨-, hw⟩ := hw
      specialize hw c2843
      refine J.aload_n 4 dL_law_2846 rfl ?_
      refine J.iconst (v := (0 : Int32)) dL_law_2847 (by decide) ?_
      obtain ⟨f2848, hk2848, hn2848, hw⟩ := hw
      refine JV.lald0 dL_law_2848 hn2848 hk2848 ?_
      refine J.iload 0 dL_law_2849 rfl ?_
      refine J.i2l dL_law_2851 ?_
      refine J.lcmp dL_law_2852 ?_
      refine J.if_eq 2858 dL_law_2853 (by decide) ⟨fun c2853 => ?_, fun c2853 => ?_⟩
      · obtain ⟨hw, -⟩ := hw
        specialize hw c2853
        refine J.goto 3184 dL_law_2858 (by decide) ?_
        refine J.iincN 5 (K := (6 : Int32)) (lv' := fun y3184 => [(4, .int y3184), (6, .int r2825), (0, .ref 69), (1, .ref x1), (2, .ref x2), (3, .ref x3), (5, .int x5)]) dL_law_3184 rfl (by decide) (by decide) (fun _ => rfl) hw ?_
        clear hw
        intro y3184 hw
        refine J.goto 23 dL_law_3187 (by decide) ?_
        exact J.pick [2, 3, 4, 5, 0] rfl (hK23 _ _ _ _ _ _ _ _ _ hw)
      · obtain ⟨-, hw⟩ := hw
        specialize hw c2853
        refine J.iconst (v := (0 : Int32)) dL_law_2856 (by decide) ?_
        exact J.zret rfl rfl dL_law_2857 ⟨_, _, _, rfl, _, rfl, hw⟩
  · obtain ⟨-, hw⟩ := hw
    specialize hw c2836
    refine J.iconst (v := (0 : Int32)) dL_law_2839 (by decide) ?_
    exact J.zret rfl rfl dL_law_2840 ⟨_, _, _, rfl, _, rfl, hw⟩
def wL_law_2798 (G : jG) (Q : Int32 → List jH → (Nat → Nat → Int32) → (Nat → Nat → Option Nat) → Prop) (K23 : List jH → (Nat → Nat → Int32) → (Nat → Nat → Option Nat) → Nat → Nat → Nat → Nat → Nat → Int32 → Prop) (sh : List jH) (V : Nat → Nat → Int32) (R : Nat → Nat → Option Nat) (c : Nat) (n : Nat) (x1 : Nat) (x2 : Nat) (x3 : Nat) (x4 : Int32) (s0 : Nat) (s1 : Int32) (s2 : Int32) : Prop :=
  (jReg shX1 sh s0 ∧ (∃ c12799 n12799 c22799 n22799 : Nat, c12799 + c22799 ≤ c ∧ n12799 + n22799 ≤ n ∧ (wX0_trial s0 sh V R c12799 n12799 s1 s2 x3 (fun r2799 sh2799 V2799 R2799 => (vp_in (x4 + (1 : Int32)) (jScN G) ∧ (vp_in (x4 + (2 : Int32)) (jScN G) ∧ (((jScF G (x4 + (2 : Int32)).toNatClampNeg) = 0 → wL_law_2825 G Q K23 sh2799 V2799 R2799 c22799 n22799 x1 x2 x3 x4 r2799 x2 (jScF G (x4 + (1 : Int32)).toNatClampNeg) (0 : Int32)) ∧ (¬ (jScF G (x4 + (2 : Int32)).toNatClampNeg) = 0 → wL_law_2825 G Q K23 sh2799 V2799 R2799 c22799 n22799 x1 x2 x3 x4 r2799 x2 (jScF G (x4 + (1 : Int32)).toNatClampNeg) (1 : Int32)))))))))
theorem rL_law_2798 {G : jG} {l : Launch} {d : Nat} (htr : l.stackTraces = false) (hdd : 107 ≤ d) {Q : Int32 → List jH → (Nat → Nat → Int32) → (Nat → Nat → Option Nat) → Prop} {K23 : List jH → (Nat → Nat → Int32) → (Nat → Nat → Option Nat) → Nat → Nat → Nat → Nat → Nat → Int32 → Prop} (hK23 : ∀ (sh : List jH) (V : Nat → Nat → Int32) (R : Nat → Nat → Option Nat) (c : Nat) (n : Nat) (x1 : Nat) (x2 : Nat) (x3 : Nat) (x4 : Int32), K23 sh V R c n x1 x2 x3 x4 → J G l ML_law d c n 23 [(0, .ref 69), (1, .ref x1), (2, .ref x2), (3, .ref x3), (4, .int x4)] [] (mk sh V R) (jSr Q) jNo) {sh : List jH} {V : Nat → Nat → Int32} {R : Nat → Nat → Option Nat} {c : Nat} {n : Nat} {x1 : Nat} {x2 : Nat} {x3 : Nat} {x4 : Int32} {s0 : Nat} {s1 : Int32} {s2 : Int32} (hw : wL_law_2798 G Q K23 sh V R c n x1 x2 x3 x4 s0 s1 s2) : J G l ML_law d c n 2798 [(0, .ref 69), (1, .ref x1), (2, .ref x2), (3, .ref x3), (4, .int x4)] [.int s2, .int s1, .ref s0] (mk sh V R) (jSr Q) jNo := by
  unfold wL_law_2798 at hw
  refine J.aload_n 3 dL_law_2798 rfl ?_
  obtain ⟨hq2799_s0, hw⟩ := hw
  obtain ⟨c12799, n12799, c22799, n22799, hc2799, hd2799, hw⟩ := hw
  refine uL_300 rfl htr hq2799_s0 dL_law_2799 (by omega) (Nat.le_of_ble_eq_true rfl) hw ⟨hc2799, hd2799⟩ ?_
  clear hw
  intro r2799 sh2799 V2799 R2799 hw
  refine J.istore (lv' := [(5, .int r2799), (0, .ref 69), (1, .ref x1), (2, .ref x2), (3, .ref x3), (4, .int x4)]) dL_law_2802 (by decide) rfl ?_
  refine J.aload_n 3 dL_law_2804 rfl ?_
  refine J.aload_n 1 dL_law_2805 rfl ?_
  refine J.iload 5 dL_law_2806 rfl ?_
  refine J.iconst (v := (1 : Int32)) dL_law_2808 (by decide) ?_
  refine J.iadd dL_law_2809 ?_
  obtain ⟨h2810, hw⟩ := hw
  refine J.sld dL_law_2810 h2810 ?_
  refine J.aload_n 1 dL_law_2811 rfl ?_
  refine J.iload 5 dL_law_2812 rfl ?_
  refine J.iconst (v := (2 : Int32)) dL_law_2814 (by decide) ?_
  refine J.iadd dL_law_2815 ?_
  obtain ⟨h2816, hw⟩ := hw
  refine J.sld dL_law_2816 h2816 ?_
  refine J.if_eq 2824 dL_law_2817 (by decide) ⟨fun c2817 => ?_, fun c2817 => ?_⟩
  · obtain ⟨hw, -⟩ := hw
    specialize hw c2817
    refine J.iconst (v := (0 : Int32)) dL_law_2824 (by decide) ?_
    exact J.pick [1, 2, 3, 4, 5, 0] rfl (rL_law_2825 htr hdd hK23 hw)
  · obtain ⟨-, hw⟩ := hw
    specialize hw c2817
    refine J.iconst (v := (1 : Int32)) dL_law_2820 (by decide) ?_
    refine J.goto 2825 dL_law_2821 (by decide) ?_
    exact J.pick [1, 2, 3, 4, 5, 0] rfl (rL_law_2825 htr hdd hK23 hw)
def wL_law_2777 (G : jG) (Q : Int32 → List jH → (Nat → Nat → Int32) → (Nat → Nat → Option Nat) → Prop) (K23 : List jH → (Nat → Nat → Int32) → (Nat → Nat → Option Nat) → Nat → Nat → Nat → Nat → Nat → Int32 → Prop) (sh : List jH) (V : Nat → Nat → Int32) (R : Nat → Nat → Option Nat) (c : Nat) (n : Nat) (x1 : Nat) (x2 : Nat) (x3 : Nat) (x4 : Int32) : Prop :=
  (vp_in (x4 + (1 : Int32)) (jScN G) ∧ (vp_in (x4 + (2 : Int32)) (jScN G) ∧ (((jScF G (x4 + (2 : Int32)).toNatClampNeg) = 0 → wL_law_2798 G Q K23 sh V R c n x1 x2 x3 x4 x1 (jScF G (x4 + (1 : Int32)).toNatClampNeg) (0 : Int32)) ∧ (¬ (jScF G (x4 + (2 : Int32)).toNatClampNeg) = 0 → wL_law_2798 G Q K23 sh V R c n x1 x2 x3 x4 x1 (jScF G (x4 + (1 : Int32)).toNatClampNeg) (1 : Int32)))))
theorem rL_law_2777 {G : jG} {l : Launch} {d : Nat} (htr : l.stackTraces = false) (hdd : 107 ≤ d) {Q : Int32 → List jH → (Nat → Nat → Int32) → (Nat → Nat → Option Nat) → Prop} {K23 : List jH → (Nat → Nat → Int32) → (Nat → Nat → Option Nat) → Nat → Nat → Nat → Nat → Nat → Int32 → Prop} (hK23 : ∀ (sh : List jH) (V : Nat → Nat → Int32) (R : Nat → Nat → Option Nat) (c : Nat) (n : Nat) (x1 : Nat) (x2 : Nat) (x3 : Nat) (x4 : Int32), K23 sh V R c n x1 x2 x3 x4 → J G l ML_law d c n 23 [(0, .ref 69), (1, .ref x1), (2, .ref x2), (3, .ref x3), (4, .int x4)] [] (mk sh V R) (jSr Q) jNo) {sh : List jH} {V : Nat → Nat → Int32} {R : Nat → Nat → Option Nat} {c : Nat} {n : Nat} {x1 : Nat} {x2 : Nat} {x3 : Nat} {x4 : Int32} (hw : wL_law_2777 G Q K23 sh V R c n x1 x2 x3 x4) : J G l ML_law d c n 2777 [(0, .ref 69), (1, .ref x1), (2, .ref x2), (3, .ref x3), (4, .int x4)] [] (mk sh V R) (jSr Q) jNo := by
  unfold wL_law_2777 at hw
  refine J.aload_n 1 dL_law_2777 rfl ?_
  refine J.aload_n 0 dL_law_2778 rfl ?_
  refine J.iload 4 dL_law_2779 rfl ?_
  refine J.iconst (v := (1 : Int32)) dL_law_2781 (by decide) ?_
  refine J.iadd dL_law_2782 ?_
  obtain ⟨h2783, hw⟩ := hw
  refine J.sld dL_law_2783 h2783 ?_
  refine J.aload_n 0 dL_law_2784 rfl ?_
  refine J.iload 4 dL_law_2785 rfl ?_
  refine J.iconst (v := (2 : Int32)) dL_law_2787 (by decide) ?_
  refine J.iadd dL_law_2788 ?_
  obtain ⟨h2789, hw⟩ := hw
  refine J.sld dL_law_2789 h2789 ?_
  refine J.if_eq 2797 dL_law_2790 (by decide) ⟨fun c2790 => ?_, fun c2790 => ?_⟩
  · obtain ⟨hw, -⟩ := hw
    specialize hw c2790
    refine J.iconst (v := (0 : Int32)) dL_law_2797 (by decide) ?_
    exact (rL_law_2798 htr hdd hK23 hw)
  · obtain ⟨-, hw⟩ := hw
    specialize hw c2790
    refine J.iconst (v := (1 : Int32)) dL_law_2793 (by decide) ?_
    refine J.goto 2798 dL_law_2794 (by decide) ?_
    exact (rL_law_2798 htr hdd hK23 hw)
def wL_law_2909 (G : jG) (Q : Int32 → List jH → (Nat → Nat → Int32) → (Nat → Nat → Option Nat) → Prop) (K23 : List jH → (Nat → Nat → Int32) → (Nat → Nat → Option Nat) → Nat → Nat → Nat → Nat → Nat → Int32 → Prop) (sh : List jH) (V : Nat → Nat → Int32) (R : Nat → Nat → Option Nat) (c : Nat) (n : Nat) (x1 : Nat) (x2 : Nat) (x3 : Nat) (x4 : Int32) (x5 : Int32) (s0 : Nat) (s1 : Int32) (s2 : Int32) : Prop :=
  (jReg shX6 sh s0 ∧ (wX6_span s0 sh R V s1 s2 (fun r2909 V2909 => (jReg shX6 sh x2 ∧ (wX6_thrown x2 V2909 (fun r2915 => ((r2915 = x5 → ((¬ x5 = 0 → (∀ y3184 : Int32, y3184 = x4 + (6 : Int32) → K23 sh V2909 R c n x1 x2 x3 y3184)) ∧ (x5 = 0 → (∃ f2932 : Nat → Int64, sh[x3]? = some (jF (.inl (3, 1, .inr (.inl f2932)))) ∧ jn ≤ x3 ∧ (((lg_cmp (f2932 0) r2909.toInt64) = 0 → (∀ y3184 : Int32, y3184 = x4 + (6 : Int32) → K23 sh V2909 R c n x1 x2 x3 y3184)) ∧ (¬ (lg_cmp (f2932 0) r2909.toInt64) = 0 → Q (0 : Int32) sh V2909 R)))))) ∧ (¬ r2915 = x5 → Q (0 : Int32) sh V2909 R))))))))
theorem rL_law_2909 {G : jG} {l : Launch} {d : Nat} (htr : l.stackTraces = false) (hdd : 107 ≤ d) {Q : Int32 → List jH → (Nat → Nat → Int32) → (Nat → Nat → Option Nat) → Prop} {K23 : List jH → (Nat → Nat → Int32) → (Nat → Nat → Option Nat) → Nat → Nat → Nat → Nat → Nat → Int32 → Prop} (hK23 : ∀ (sh : List jH) (V : Nat → Nat → Int32) (R : Nat → Nat → Option Nat) (c : Nat) (n : Nat) (x1 : Nat) (x2 : Nat) (x3 : Nat) (x4 : Int32), K23 sh V R c n x1 x2 x3 x4 → J G l ML_law d c n 23 [(0, .ref 69), (1, .ref x1), (2, .ref x2), (3, .ref x3), (4, .int x4)] [] (mk sh V R) (jSr Q) jNo) {sh : List jH} {V : Nat → Nat → Int32} {R : Nat → Nat → Option Nat} {c : Nat} {n : Nat} {x1 : Nat} {x2 : Nat} {x3 : Nat} {x4 : Int32} {x5 : Int32} {s0 : Nat} {s1 : Int32} {s2 : Int32} (hw : wL_law_2909 G Q K23 sh V R c n x1 x2 x3 x4 x5 s0 s1 s2) : J G l ML_law d c n 2909 [(0, .ref 69), (1, .ref x1), (2, .ref x2), (3, .ref x3), (4, .int x4), (5, .int x5)] [.int s2, .int s1, .ref s0] (mk sh V R) (jSr Q) jNo := by
  unfold wL_law_2909 at hw
  obtain ⟨hq2909_s0, hw⟩ := hw
  refine uL_306 rfl htr hq2909_s0 dL_law_2909 (by omega) (Nat.le_of_ble_eq_true rfl) hw ?_
  clear hw
  intro r2909 V2909 hw
  refine J.istore (lv' := [(6, .int r2909), (0, .ref 69), (1, .ref x1), (2, .ref x2), (3, .ref x3), (4, .int x4), (5, .int x5)]) dL_law_2912 (by decide) rfl ?_
  refine J.aload_n 3 dL_law_2914 rfl ?_
  obtain ⟨hq2915_x2, hw⟩ := hw
  refine uL_159 rfl htr hq2915_x2 dL_law_2915 (by omega) (Nat.le_of_ble_eq_true rfl) hw ?_
  clear hw
  intro r2915 hw
  refine J.iload 6 dL_law_2918 rfl ?_
  refine J.icmp_eq 2925 dL_law_2920 (by decide) ⟨fun c2920 => ?_, fun c2920 => ?_⟩
  · obtain ⟨hw, -⟩ := hw
    specialize hw c2920
    refine J.iload 6 dL_law_2925 rfl ?_
    refine J.if_ne 2942 dL_law_2927 (by decide) ⟨fun c2927 => ?_, fun c2927 => ?_⟩
    · obtain ⟨hw, -⟩ := hw
      specialize hw c2927
      refine J.goto 3184 dL_law_2942 (by decide) ?_
      refine J.iincN 5 (K := (6 : Int32)) (lv' := fun y3184 => [(4, .int y3184), (6, .int r2909), (0, .ref 69), (1, .ref x1), (2, .ref x2), (3, .ref x3), (5, .int x5)]) dL_law_3184 rfl (by decide) (by decide) (fun _ => rfl) hw ?_
      clear hw
      intro y3184 hw
      refine J.goto 23 dL_law_3187 (by decide) ?_
      exact J.pick [2, 3, 4, 5, 0] rfl (hK23 _ _ _ _ _ _ _ _ _ hw)
    · obtain ⟨-, hw⟩ := hw
      specialize hw c2927
      refine J.aload_n 4 dL_law_2930 rfl ?_
      refine J.iconst (v := (0 : Int32)) dL_law_2931 (by decide) ?_
      obtain ⟨f2932, hk2932, hn2932, hw⟩ := hw
      refine JV.lald0 dL_law_2932 hn2932 hk2932 ?_
      refine J.iload 0 dL_law_2933 rfl ?_
      refine J.i2l dL_law_2935 ?_
      refine J.lcmp dL_law_2936 ?_
      refine J.if_eq 2942 dL_law_2937 (by decide) ⟨fun c2937 => ?_, fun c2937 => ?_⟩
      · obtain ⟨hw, -⟩ := hw
        specialize hw c2937
        refine J.goto 3184 dL_law_2942 (by decide) ?_
        refine J.iincN 5 (K := (6 : Int32)) (lv' := fun y3184 => [(4, .int y3184), (6, .int r2909), (0, .ref 69), (1, .ref x1), (2, .ref x2), (3, .ref x3), (5, .int x5)]) dL_law_3184 rfl (by decide) (by decide) (fun _ => rfl) hw ?_
        clear hw
        intro y3184 hw
        refine J.goto 23 dL_law_3187 (by decide) ?_
        exact J.pick [2, 3, 4, 5, 0] rfl (hK23 _ _ _ _ _ _ _ _ _ hw)
      · obtain ⟨-, hw⟩ := hw
        specialize hw c2937
        refine J.iconst (v := (0 : Int32)) dL_law_2940 (by decide) ?_
        exact J.zret rfl rfl dL_law_2941 ⟨_, _, _, rfl, _, rfl, hw⟩
  · obtain ⟨-, hw⟩ := hw
    specialize hw c2920
    refine J.iconst (v := (0 : Int32)) dL_law_2923 (by decide) ?_
    exact J.zret rfl rfl dL_law_2924 ⟨_, _, _, rfl, _, rfl, hw⟩
def wL_law_2882 (G : jG) (Q : Int32 → List jH → (Nat → Nat → Int32) → (Nat → Nat → Option Nat) → Prop) (K23 : List jH → (Nat → Nat → Int32) → (Nat → Nat → Option Nat) → Nat → Nat → Nat → Nat → Nat → Int32 → Prop) (sh : List jH) (V : Nat → Nat → Int32) (R : Nat → Nat → Option Nat) (c : Nat) (n : Nat) (x1 : Nat) (x2 : Nat) (x3 : Nat) (x4 : Int32) (s0 : Nat) (s1 : Int32) (s2 : Int32) : Prop :=
  (jReg shX1 sh s0 ∧ (∃ c12883 n12883 c22883 n22883 : Nat, c12883 + c22883 ≤ c ∧ n12883 + n22883 ≤ n ∧ (wX0_span s0 sh V R c12883 n12883 s1 s2 x3 (fun r2883 sh2883 V2883 R2883 => (vp_in (x4 + (1 : Int32)) (jScN G) ∧ (vp_in (x4 + (2 : Int32)) (jScN G) ∧ (((jScF G (x4 + (2 : Int32)).toNatClampNeg) = 0 → wL_law_2909 G Q K23 sh2883 V2883 R2883 c22883 n22883 x1 x2 x3 x4 r2883 x2 (jScF G (x4 + (1 : Int32)).toNatClampNeg) (0 : Int32)) ∧ (¬ (jScF G (x4 + (2 : Int32)).toNatClampNeg) = 0 → wL_law_2909 G Q K23 sh2883 V2883 R2883 c22883 n22883 x1 x2 x3 x4 r2883 x2 (jScF G (x4 + (1 : Int32)).toNatClampNeg) (1 : Int32)))))))))
theorem rL_law_2882 {G : jG} {l : Launch} {d : Nat} (htr : l.stackTraces = false) (hdd : 107 ≤ d) {Q : Int32 → List jH → (Nat → Nat → Int32) → (Nat → Nat → Option Nat) → Prop} {K23 : List jH → (Nat → Nat → Int32) → (Nat → Nat → Option Nat) → Nat → Nat → Nat → Nat → Nat → Int32 → Prop} (hK23 : ∀ (sh : List jH) (V : Nat → Nat → Int32) (R : Nat → Nat → Option Nat) (c : Nat) (n : Nat) (x1 : Nat) (x2 : Nat) (x3 : Nat) (x4 : Int32), K23 sh V R c n x1 x2 x3 x4 → J G l ML_law d c n 23 [(0, .ref 69), (1, .ref x1), (2, .ref x2), (3, .ref x3), (4, .int x4)] [] (mk sh V R) (jSr Q) jNo) {sh : List jH} {V : Nat → Nat → Int32} {R : Nat → Nat → Option Nat} {c : Nat} {n : Nat} {x1 : Nat} {x2 : Nat} {x3 : Nat} {x4 : Int32} {s0 : Nat} {s1 : Int32} {s2 : Int32} (hw : wL_law_2882 G Q K23 sh V R c n x1 x2 x3 x4 s0 s1 s2) : J G l ML_law d c n 2882 [(0, .ref 69), (1, .ref x1), (2, .ref x2), (3, .ref x3), (4, .int x4)] [.int s2, .int s1, .ref s0] (mk sh V R) (jSr Q) jNo := by
  unfold wL_law_2882 at hw
  refine J.aload_n 3 dL_law_2882 rfl ?_
  obtain ⟨hq2883_s0, hw⟩ := hw
  obtain ⟨c12883, n12883, c22883, n22883, hc2883, hd2883, hw⟩ := hw
  refine uL_304 rfl htr hq2883_s0 dL_law_2883 (by omega) (Nat.le_of_ble_eq_true rfl) hw ⟨hc2883, hd2883⟩ ?_
  clear hw
  intro r2883 sh2883 V2883 R2883 hw
  refine J.istore (lv' := [(5, .int r2883), (0, .ref 69), (1, .ref x1), (2, .ref x2), (3, .ref x3), (4, .int x4)]) dL_law_2886 (by decide) rfl ?_
  refine J.aload_n 3 dL_law_2888 rfl ?_
  refine J.aload_n 1 dL_law_2889 rfl ?_
  refine J.iload 5 dL_law_2890 rfl ?_
  refine J.iconst (v := (1 : Int32)) dL_law_2892 (by decide) ?_
  refine J.iadd dL_law_2893 ?_
  obtain ⟨h2894, hw⟩ := hw
  refine J.sld dL_law_2894 h2894 ?_
  refine J.aload_n 1 dL_law_2895 rfl ?_
  refine J.iload 5 dL_law_2896 rfl ?_
  refine J.iconst (v := (2 : Int32)) dL_law_2898 (by decide) ?_
  refine J.iadd dL_law_2899 ?_
  obtain ⟨h2900, hw⟩ := hw
  refine J.sld dL_law_2900 h2900 ?_
  refine J.if_eq 2908 dL_law_2901 (by decide) ⟨fun c2901 => ?_, fun c2901 => ?_⟩
  · obtain ⟨hw, -⟩ := hw
    specialize hw c2901
    refine J.iconst (v := (0 : Int32)) dL_law_2908 (by decide) ?_
    exact J.pick [1, 2, 3, 4, 5, 0] rfl (rL_law_2909 htr hdd hK23 hw)
  · obtain ⟨-, hw⟩ := hw
    specialize hw c2901
    refine J.iconst (v := (1 : Int32)) dL_law_2904 (by decide) ?_
    refine J.goto 2909 dL_law_2905 (by decide) ?_
    exact J.pick [1, 2, 3, 4, 5, 0] rfl (rL_law_2909 htr hdd hK23 hw)
def wL_law_2861 (G : jG) (Q : Int32 → List jH → (Nat → Nat → Int32) → (Nat → Nat → Option Nat) → Prop) (K23 : List jH → (Nat → Nat → Int32) → (Nat → Nat → Option Nat) → Nat → Nat → Nat → Nat → Nat → Int32 → Prop) (sh : List jH) (V : Nat → Nat → Int32) (R : Nat → Nat → Option Nat) (c : Nat) (n : Nat) (x1 : Nat) (x2 : Nat) (x3 : Nat) (x4 : Int32) : Prop :=
  (vp_in (x4 + (1 : Int32)) (jScN G) ∧ (vp_in (x4 + (2 : Int32)) (jScN G) ∧ (((jScF G (x4 + (2 : Int32)).toNatClampNeg) = 0 → wL_law_2882 G Q K23 sh V R c n x1 x2 x3 x4 x1 (jScF G (x4 + (1 : Int32)).toNatClampNeg) (0 : Int32)) ∧ (¬ (jScF G (x4 + (2 : Int32)).toNatClampNeg) = 0 → wL_law_2882 G Q K23 sh V R c n x1 x2 x3 x4 x1 (jScF G (x4 + (1 : Int32)).toNatClampNeg) (1 : Int32)))))
theorem rL_law_2861 {G : jG} {l : Launch} {d : Nat} (htr : l.stackTraces = false) (hdd : 107 ≤ d) {Q : Int32 → List jH → (Nat → Nat → Int32) → (Nat → Nat → Option Nat) → Prop} {K23 : List jH → (Nat → Nat → Int32) → (Nat → Nat → Option Nat) → Nat → Nat → Nat → Nat → Nat → Int32 → Prop} (hK23 : ∀ (sh : List jH) (V : Nat → Nat → Int32) (R : Nat → Nat → Option Nat) (c : Nat) (n : Nat) (x1 : Nat) (x2 : Nat) (x3 : Nat) (x4 : Int32), K23 sh V R c n x1 x2 x3 x4 → J G l ML_law d c n 23 [(0, .ref 69), (1, .ref x1), (2, .ref x2), (3, .ref x3), (4, .int x4)] [] (mk sh V R) (jSr Q) jNo) {sh : List jH} {V : Nat → Nat → Int32} {R : Nat → Nat → Option Nat} {c : Nat} {n : Nat} {x1 : Nat} {x2 : Nat} {x3 : Nat} {x4 : Int32} (hw : wL_law_2861 G Q K23 sh V R c n x1 x2 x3 x4) : J G l ML_law d c n 2861 [(0, .ref 69), (1, .ref x1), (2, .ref x2), (3, .ref x3), (4, .int x4)] [] (mk sh V R) (jSr Q) jNo := by
  unfold wL_law_2861 at hw
  refine J.aload_n 1 dL_law_2861 rfl ?_
  refine J.aload_n 0 dL_law_2862 rfl ?_
  refine J.iload 4 dL_law_2863 rfl ?_
  refine J.iconst (v := (1 : Int32)) dL_law_2865 (by decide) ?_
  refine J.iadd dL_law_2866 ?_
  obtain ⟨h2867, hw⟩ := hw
  refine J.sld dL_law_2867 h2867 ?_
  refine J.aload_n 0 dL_law_2868 rfl ?_
  refine J.iload 4 dL_law_2869 rfl ?_
  refine J.iconst (v := (2 : Int32)) dL_law_2871 (by decide) ?_
  refine J.iadd dL_law_2872 ?_
  obtain ⟨h2873, hw⟩ := hw
  refine J.sld dL_law_2873 h2873 ?_
  refine J.if_eq 2881 dL_law_2874 (by decide) ⟨fun c2874 => ?_, fun c2874 => ?_⟩
  · obtain ⟨hw, -⟩ := hw
    specialize hw c2874
    refine J.iconst (v := (0 : Int32)) dL_law_2881 (by decide) ?_
    exact (rL_law_2882 htr hdd hK23 hw)
  · obtain ⟨-, hw⟩ := hw
    specialize hw c2874
    refine J.iconst (v := (1 : Int32)) dL_law_2877 (by decide) ?_
    refine J.goto 2882 dL_law_2878 (by decide) ?_
    exact (rL_law_2882 htr hdd hK23 hw)
def wL_law_2993 (G : jG) (Q : Int32 → List jH → (Nat → Nat → Int32) → (Nat → Nat → Option Nat) → Prop) (K23 : List jH → (Nat → Nat → Int32) → (Nat → Nat → Option Nat) → Nat → Nat → Nat → Nat → Nat → Int32 → Prop) (sh : List jH) (V : Nat → Nat → Int32) (R : Nat → Nat → Option Nat) (c : Nat) (n : Nat) (x1 : Nat) (x2 : Nat) (x3 : Nat) (x4 : Int32) (x5 : Int32) (s0 : Nat) (s1 : Int32) (s2 : Int32) : Prop :=
  (jReg shX6 sh s0 ∧ (wX6_led s0 V s1 s2 (fun r2993 V2993 => (jReg shX6 sh x2 ∧ (wX6_thrown x2 V2993 (fun r2999 => ((r2999 = x5 → ((¬ x5 = 0 → (∀ y3184 : Int32, y3184 = x4 + (6 : Int32) → K23 sh V2993 R c n x1 x2 x3 y3184)) ∧ (x5 = 0 → (∃ f3016 : Nat → Int64, sh[x3]? = some (jF (.inl (3, 1, .inr (.inl f3016)))) ∧ jn ≤ x3 ∧ (((lg_cmp (f3016 0) r2993.toInt64) = 0 → (∀ y3184 : Int32, y3184 = x4 + (6 : Int32) → K23 sh V2993 R c n x1 x2 x3 y3184)) ∧ (¬ (lg_cmp (f3016 0) r2993.toInt64) = 0 → Q (0 : Int32) sh V2993 R)))))) ∧ (¬ r2999 = x5 → Q (0 : Int32) sh V2993 R))))))))
theorem rL_law_2993 {G : jG} {l : Launch} {d : Nat} (htr : l.stackTraces = false) (hdd : 107 ≤ d) {Q : Int32 → List jH → (Nat → Nat → Int32) → (Nat → Nat → Option Nat) → Prop} {K23 : List jH → (Nat → Nat → Int32) → (Nat → Nat → Option Nat) → Nat → Nat → Nat → Nat → Nat → Int32 → Prop} (hK23 : ∀ (sh : List jH) (V : Nat → Nat → Int32) (R : Nat → Nat → Option Nat) (c : Nat) (n : Nat) (x1 : Nat) (x2 : Nat) (x3 : Nat) (x4 : Int32), K23 sh V R c n x1 x2 x3 x4 → J G l ML_law d c n 23 [(0, .ref 69), (1, .ref x1), (2, .ref x2), (3, .ref x3), (4, .int x4)] [] (mk sh V R) (jSr Q) jNo) {sh : List jH} {V : Nat → Nat → Int32} {R : Nat → Nat → Option Nat} {c : Nat} {n : Nat} {x1 : Nat} {x2 : Nat} {x3 : Nat} {x4 : Int32} {x5 : Int32} {s0 : Nat} {s1 : Int32} {s2 : Int32} (hw : wL_law_2993 G Q K23 sh V R c n x1 x2 x3 x4 x5 s0 s1 s2) : J G l ML_law d c n 2993 [(0, .ref 69), (1, .ref x1), (2, .ref x2), (3, .ref x3), (4, .int x4), (5, .int x5)] [.int s2, .int s1, .ref s0] (mk sh V R) (jSr Q) jNo := by
  unfold wL_law_2993 at hw
  obtain ⟨hq2993_s0, hw⟩ := hw
  refine uL_309 rfl htr hq2993_s0 dL_law_2993 (by omega) (Nat.le_of_ble_eq_true rfl) hw ?_
  clear hw
  intro r2993 V2993 hw
  refine J.istore (lv' := [(6, .int r2993), (0, .ref 69), (1, .ref x1), (2, .ref x2), (3, .ref x3), (4, .int x4), (5, .int x5)]) dL_law_2996 (by decide) rfl ?_
  refine J.aload_n 3 dL_law_2998 rfl ?_
  obtain ⟨hq2999_x2, hw⟩ := hw
  refine uL_159 rfl htr hq2999_x2 dL_law_2999 (by omega) (Nat.le_of_ble_eq_true rfl) hw ?_
  clear hw
  intro r2999 hw
  refine J.iload 6 dL_law_3002 rfl ?_
  refine J.icmp_eq 3009 dL_law_3004 (by decide) ⟨fun c3004 => ?_, fun c3004 => ?_⟩
  · obtain ⟨hw, -⟩ := hw
    specialize hw c3004
    refine J.iload 6 dL_law_3009 rfl ?_
    refine J.if_ne 3026 dL_law_3011 (by decide) ⟨fun c3011 => ?_, fun c3011 => ?_⟩
    · obtain ⟨hw, -⟩ := hw
      specialize hw c3011
      refine J.goto 3184 dL_law_3026 (by decide) ?_
      refine J.iincN 5 (K := (6 : Int32)) (lv' := fun y3184 => [(4, .int y3184), (6, .int r2993), (0, .ref 69), (1, .ref x1), (2, .ref x2), (3, .ref x3), (5, .int x5)]) dL_law_3184 rfl (by decide) (by decide) (fun _ => rfl) hw ?_
      clear hw
      intro y3184 hw
      refine J.goto 23 dL_law_3187 (by decide) ?_
      exact J.pick [2, 3, 4, 5, 0] rfl (hK23 _ _ _ _ _ _ _ _ _ hw)
    · obtain ⟨-, hw⟩ := hw
      specialize hw c3011
      refine J.aload_n 4 dL_law_3014 rfl ?_
      refine J.iconst (v := (0 : Int32)) dL_law_3015 (by decide) ?_
      obtain ⟨f3016, hk3016, hn3016, hw⟩ := hw
      refine JV.lald0 dL_law_3016 hn3016 hk3016 ?_
      refine J.iload 0 dL_law_3017 rfl ?_
      refine J.i2l dL_law_3019 ?_
      refine J.lcmp dL_law_3020 ?_
      refine J.if_eq 3026 dL_law_3021 (by decide) ⟨fun c3021 => ?_, fun c3021 => ?_⟩
      · obtain ⟨hw, -⟩ := hw
        specialize hw c3021
        refine J.goto 3184 dL_law_3026 (by decide) ?_
        refine J.iincN 5 (K := (6 : Int32)) (lv' := fun y3184 => [(4, .int y3184), (6, .int r2993), (0, .ref 69), (1, .ref x1), (2, .ref x2), (3, .ref x3), (5, .int x5)]) dL_law_3184 rfl (by decide) (by decide) (fun _ => rfl) hw ?_
        clear hw
        intro y3184 hw
        refine J.goto 23 dL_law_3187 (by decide) ?_
        exact J.pick [2, 3, 4, 5, 0] rfl (hK23 _ _ _ _ _ _ _ _ _ hw)
      · obtain ⟨-, hw⟩ := hw
        specialize hw c3021
        refine J.iconst (v := (0 : Int32)) dL_law_3024 (by decide) ?_
        exact J.zret rfl rfl dL_law_3025 ⟨_, _, _, rfl, _, rfl, hw⟩
  · obtain ⟨-, hw⟩ := hw
    specialize hw c3004
    refine J.iconst (v := (0 : Int32)) dL_law_3007 (by decide) ?_
    exact J.zret rfl rfl dL_law_3008 ⟨_, _, _, rfl, _, rfl, hw⟩
def wL_law_2966 (G : jG) (Q : Int32 → List jH → (Nat → Nat → Int32) → (Nat → Nat → Option Nat) → Prop) (K23 : List jH → (Nat → Nat → Int32) → (Nat → Nat → Option Nat) → Nat → Nat → Nat → Nat → Nat → Int32 → Prop) (sh : List jH) (V : Nat → Nat → Int32) (R : Nat → Nat → Option Nat) (c : Nat) (n : Nat) (x1 : Nat) (x2 : Nat) (x3 : Nat) (x4 : Int32) (s0 : Nat) (s1 : Int32) (s2 : Int32) : Prop :=
  (jReg shX1 sh s0 ∧ (∃ c12967 n12967 c22967 n22967 : Nat, c12967 + c22967 ≤ c ∧ n12967 + n22967 ≤ n ∧ (wX0_led s0 sh V R c12967 n12967 s1 s2 x3 (fun r2967 sh2967 V2967 R2967 => (vp_in (x4 + (1 : Int32)) (jScN G) ∧ (vp_in (x4 + (2 : Int32)) (jScN G) ∧ (((jScF G (x4 + (2 : Int32)).toNatClampNeg) = 0 → wL_law_2993 G Q K23 sh2967 V2967 R2967 c22967 n22967 x1 x2 x3 x4 r2967 x2 (jScF G (x4 + (1 : Int32)).toNatClampNeg) (0 : Int32)) ∧ (¬ (jScF G (x4 + (2 : Int32)).toNatClampNeg) = 0 → wL_law_2993 G Q K23 sh2967 V2967 R2967 c22967 n22967 x1 x2 x3 x4 r2967 x2 (jScF G (x4 + (1 : Int32)).toNatClampNeg) (1 : Int32)))))))))
theorem rL_law_2966 {G : jG} {l : Launch} {d : Nat} (htr : l.stackTraces = false) (hdd : 107 ≤ d) {Q : Int32 → List jH → (Nat → Nat → Int32) → (Nat → Nat → Option Nat) → Prop} {K23 : List jH → (Nat → Nat → Int32) → (Nat → Nat → Option Nat) → Nat → Nat → Nat → Nat → Nat → Int32 → Prop} (hK23 : ∀ (sh : List jH) (V : Nat → Nat → Int32) (R : Nat → Nat → Option Nat) (c : Nat) (n : Nat) (x1 : Nat) (x2 : Nat) (x3 : Nat) (x4 : Int32), K23 sh V R c n x1 x2 x3 x4 → J G l ML_law d c n 23 [(0, .ref 69), (1, .ref x1), (2, .ref x2), (3, .ref x3), (4, .int x4)] [] (mk sh V R) (jSr Q) jNo) {sh : List jH} {V : Nat → Nat → Int32} {R : Nat → Nat → Option Nat} {c : Nat} {n : Nat} {x1 : Nat} {x2 : Nat} {x3 : Nat} {x4 : Int32} {s0 : Nat} {s1 : Int32} {s2 : Int32} (hw : wL_law_2966 G Q K23 sh V R c n x1 x2 x3 x4 s0 s1 s2) : J G l ML_law d c n 2966 [(0, .ref 69), (1, .ref x1), (2, .ref x2), (3, .ref x3), (4, .int x4)] [.int s2, .int s1, .ref s0] (mk sh V R) (jSr Q) jNo := by
  unfold wL_law_2966 at hw
  refine J.aload_n 3 dL_law_2966 rfl ?_
  obtain ⟨hq2967_s0, hw⟩ := hw
  obtain ⟨c12967, n12967, c22967, n22967, hc2967, hd2967, hw⟩ := hw
  refine uL_307 rfl htr hq2967_s0 dL_law_2967 (by omega) (Nat.le_of_ble_eq_true rfl) hw ⟨hc2967, hd2967⟩ ?_
  clear hw
  intro r2967 sh2967 V2967 R2967 hw
  refine J.istore (lv' := [(5, .int r2967), (0, .ref 69), (1, .ref x1), (2, .ref x2), (3, .ref x3), (4, .int x4)]) dL_law_2970 (by decide) rfl ?_
  refine J.aload_n 3 dL_law_2972 rfl ?_
  refine J.aload_n 1 dL_law_2973 rfl ?_
  refine J.iload 5 dL_law_2974 rfl ?_
  refine J.iconst (v := (1 : Int32)) dL_law_2976 (by decide) ?_
  refine J.iadd dL_law_2977 ?_
  obtain ⟨h2978, hw⟩ := hw
  refine J.sld dL_law_2978 h2978 ?_
  refine J.aload_n 1 dL_law_2979 rfl ?_
  refine J.iload 5 dL_law_2980 rfl ?_
  refine J.iconst (v := (2 : Int32)) dL_law_2982 (by decide) ?_
  refine J.iadd dL_law_2983 ?_
  obtain ⟨h2984, hw⟩ := hw
  refine J.sld dL_law_2984 h2984 ?_
  refine J.if_eq 2992 dL_law_2985 (by decide) ⟨fun c2985 => ?_, fun c2985 => ?_⟩
  · obtain ⟨hw, -⟩ := hw
    specialize hw c2985
    refine J.iconst (v := (0 : Int32)) dL_law_2992 (by decide) ?_
    exact J.pick [1, 2, 3, 4, 5, 0] rfl (rL_law_2993 htr hdd hK23 hw)
  · obtain ⟨-, hw⟩ := hw
    specialize hw c2985
    refine J.iconst (v := (1 : Int32)) dL_law_2988 (by decide) ?_
    refine J.goto 2993 dL_law_2989 (by decide) ?_
    exact J.pick [1, 2, 3, 4, 5, 0] rfl (rL_law_2993 htr hdd hK23 hw)
def wL_law_2945 (G : jG) (Q : Int32 → List jH → (Nat → Nat → Int32) → (Nat → Nat → Option Nat) → Prop) (K23 : List jH → (Nat → Nat → Int32) → (Nat → Nat → Option Nat) → Nat → Nat → Nat → Nat → Nat → Int32 → Prop) (sh : List jH) (V : Nat → Nat → Int32) (R : Nat → Nat → Option Nat) (c : Nat) (n : Nat) (x1 : Nat) (x2 : Nat) (x3 : Nat) (x4 : Int32) : Prop :=
  (vp_in (x4 + (1 : Int32)) (jScN G) ∧ (vp_in (x4 + (2 : Int32)) (jScN G) ∧ (((jScF G (x4 + (2 : Int32)).toNatClampNeg) = 0 → wL_law_2966 G Q K23 sh V R c n x1 x2 x3 x4 x1 (jScF G (x4 + (1 : Int32)).toNatClampNeg) (0 : Int32)) ∧ (¬ (jScF G (x4 + (2 : Int32)).toNatClampNeg) = 0 → wL_law_2966 G Q K23 sh V R c n x1 x2 x3 x4 x1 (jScF G (x4 + (1 : Int32)).toNatClampNeg) (1 : Int32)))))
theorem rL_law_2945 {G : jG} {l : Launch} {d : Nat} (htr : l.stackTraces = false) (hdd : 107 ≤ d) {Q : Int32 → List jH → (Nat → Nat → Int32) → (Nat → Nat → Option Nat) → Prop} {K23 : List jH → (Nat → Nat → Int32) → (Nat → Nat → Option Nat) → Nat → Nat → Nat → Nat → Nat → Int32 → Prop} (hK23 : ∀ (sh : List jH) (V : Nat → Nat → Int32) (R : Nat → Nat → Option Nat) (c : Nat) (n : Nat) (x1 : Nat) (x2 : Nat) (x3 : Nat) (x4 : Int32), K23 sh V R c n x1 x2 x3 x4 → J G l ML_law d c n 23 [(0, .ref 69), (1, .ref x1), (2, .ref x2), (3, .ref x3), (4, .int x4)] [] (mk sh V R) (jSr Q) jNo) {sh : List jH} {V : Nat → Nat → Int32} {R : Nat → Nat → Option Nat} {c : Nat} {n : Nat} {x1 : Nat} {x2 : Nat} {x3 : Nat} {x4 : Int32} (hw : wL_law_2945 G Q K23 sh V R c n x1 x2 x3 x4) : J G l ML_law d c n 2945 [(0, .ref 69), (1, .ref x1), (2, .ref x2), (3, .ref x3), (4, .int x4)] [] (mk sh V R) (jSr Q) jNo := by
  unfold wL_law_2945 at hw
  refine J.aload_n 1 dL_law_2945 rfl ?_
  refine J.aload_n 0 dL_law_2946 rfl ?_
  refine J.iload 4 dL_law_2947 rfl ?_
  refine J.iconst (v := (1 : Int32)) dL_law_2949 (by decide) ?_
  refine J.iadd dL_law_2950 ?_
  obtain ⟨h2951, hw⟩ := hw
  refine J.sld dL_law_2951 h2951 ?_
  refine J.aload_n 0 dL_law_2952 rfl ?_
  refine J.iload 4 dL_law_2953 rfl ?_
  refine J.iconst (v := (2 : Int32)) dL_law_2955 (by decide) ?_
  refine J.iadd dL_law_2956 ?_
  obtain ⟨h2957, hw⟩ := hw
  refine J.sld dL_law_2957 h2957 ?_
  refine J.if_eq 2965 dL_law_2958 (by decide) ⟨fun c2958 => ?_, fun c2958 => ?_⟩
  · obtain ⟨hw, -⟩ := hw
    specialize hw c2958
    refine J.iconst (v := (0 : Int32)) dL_law_2965 (by decide) ?_
    exact (rL_law_2966 htr hdd hK23 hw)
  · obtain ⟨-, hw⟩ := hw
    specialize hw c2958
    refine J.iconst (v := (1 : Int32)) dL_law_2961 (by decide) ?_
    refine J.goto 2966 dL_law_2962 (by decide) ?_
    exact (rL_law_2966 htr hdd hK23 hw)
def wL_law_3029 (G : jG) (Q : Int32 → List jH → (Nat → Nat → Int32) → (Nat → Nat → Option Nat) → Prop) (K23 : List jH → (Nat → Nat → Int32) → (Nat → Nat → Option Nat) → Nat → Nat → Nat → Nat → Nat → Int32 → Prop) (sh : List jH) (V : Nat → Nat → Int32) (R : Nat → Nat → Option Nat) (c : Nat) (n : Nat) (x1 : Nat) (x2 : Nat) (x3 : Nat) (x4 : Int32) : Prop :=
  (vp_in (x4 + (1 : Int32)) (jScN G) ∧ (vp_in (x4 + (2 : Int32)) (jScN G) ∧ (jReg shX1 sh x1 ∧ (∃ c13043 n13043 c23043 n23043 : Nat, c13043 + c23043 ≤ c ∧ n13043 + n23043 ≤ n ∧ (wX0_log x1 sh V R c13043 n13043 (jScF G (x4 + (1 : Int32)).toNatClampNeg) (jScF G (x4 + (2 : Int32)).toNatClampNeg) x3 (fun r3043 sh3043 V3043 R3043 => (vp_in (x4 + (1 : Int32)) (jScN G) ∧ (vp_in (x4 + (2 : Int32)) (jScN G) ∧ (jReg shX6 sh3043 x2 ∧ (wX6_log x2 V3043 (jScF G (x4 + (1 : Int32)).toNatClampNeg) (jScF G (x4 + (2 : Int32)).toNatClampNeg) (fun r3061 V3061 => (jReg shX6 sh3043 x2 ∧ (wX6_thrown x2 V3061 (fun r3067 => ((r3067 = r3043 → ((¬ r3043 = 0 → (∀ y3184 : Int32, y3184 = x4 + (6 : Int32) → K23 sh3043 V3061 R3043 c23043 n23043 x1 x2 x3 y3184)) ∧ (r3043 = 0 → (∃ f3084 : Nat → Int64, sh3043[x3]? = some (jF (.inl (3, 1, .inr (.inl f3084)))) ∧ jn ≤ x3 ∧ (((lg_cmp (f3084 0) r3061.toInt64) = 0 → (∀ y3184 : Int32, y3184 = x4 + (6 : Int32) → K23 sh3043 V3061 R3043 c23043 n23043 x1 x2 x3 y3184)) ∧ (¬ (lg_cmp (f3084 0) r3061.toInt64) = 0 → Q (0 : Int32) sh3043 V3061 R3043)))))) ∧ (¬ r3067 = r3043 → Q (0 : Int32) sh3043 V3061 R3043))))))))))))))))
theorem rL_law_3029 {G : jG} {l : Launch} {d : Nat} (htr : l.stackTraces = false) (hdd : 107 ≤ d) {Q : Int32 → List jH → (Nat → Nat → Int32) → (Nat → Nat → Option Nat) → Prop} {K23 : List jH → (Nat → Nat → Int32) → (Nat → Nat → Option Nat) → Nat → Nat → Nat → Nat → Nat → Int32 → Prop} (hK23 : ∀ (sh : List jH) (V : Nat → Nat → Int32) (R : Nat → Nat → Option Nat) (c : Nat) (n : Nat) (x1 : Nat) (x2 : Nat) (x3 : Nat) (x4 : Int32), K23 sh V R c n x1 x2 x3 x4 → J G l ML_law d c n 23 [(0, .ref 69), (1, .ref x1), (2, .ref x2), (3, .ref x3), (4, .int x4)] [] (mk sh V R) (jSr Q) jNo) {sh : List jH} {V : Nat → Nat → Int32} {R : Nat → Nat → Option Nat} {c : Nat} {n : Nat} {x1 : Nat} {x2 : Nat} {x3 : Nat} {x4 : Int32} (hw : wL_law_3029 G Q K23 sh V R c n x1 x2 x3 x4) : J G l ML_law d c n 3029 [(0, .ref 69), (1, .ref x1), (2, .ref x2), (3, .ref x3), (4, .int x4)] [] (mk sh V R) (jSr Q) jNo := by
  unfold wL_law_3029 at hw
  refine J.aload_n 1 dL_law_3029 rfl ?_
  refine J.aload_n 0 dL_law_3030 rfl ?_
  refine J.iload 4 dL_law_3031 rfl ?_
  refine J.iconst (v := (1 : Int32)) dL_law_3033 (by decide) ?_
  refine J.iadd dL_law_3034 ?_
  obtain ⟨h3035, hw⟩ := hw
  refine J.sld dL_law_3035 h3035 ?_
  refine J.aload_n 0 dL_law_3036 rfl ?_
  refine J.iload 4 dL_law_3037 rfl ?_
  refine J.iconst (v := (2 : Int32)) dL_law_3039 (by decide) ?_
  refine J.iadd dL_law_3040 ?_
  obtain ⟨h3041, hw⟩ := hw
  refine J.sld dL_law_3041 h3041 ?_
  refine J.aload_n 3 dL_law_3042 rfl ?_
  obtain ⟨hq3043_x1, hw⟩ := hw
  obtain ⟨c13043, n13043, c23043, n23043, hc3043, hd3043, hw⟩ := hw
  refine uL_310 rfl htr hq3043_x1 dL_law_3043 (by omega) (Nat.le_of_ble_eq_true rfl) hw ⟨hc3043, hd3043⟩ ?_
  clear hw
  intro r3043 sh3043 V3043 R3043 hw
  refine J.istore (lv' := [(5, .int r3043), (0, .ref 69), (1, .ref x1), (2, .ref x2), (3, .ref x3), (4, .int x4)]) dL_law_3046 (by decide) rfl ?_
  refine J.aload_n 3 dL_law_3048 rfl ?_
  refine J.aload_n 1 dL_law_3049 rfl ?_
  refine J.iload 5 dL_law_3050 rfl ?_
  refine J.iconst (v := (1 : Int32)) dL_law_3052 (by decide) ?_
  refine J.iadd dL_law_3053 ?_
  obtain ⟨h3054, hw⟩ := hw
  refine J.sld dL_law_3054 h3054 ?_
  refine J.aload_n 1 dL_law_3055 rfl ?_
  refine J.iload 5 dL_law_3056 rfl ?_
  refine J.iconst (v := (2 : Int32)) dL_law_3058 (by decide) ?_
  refine J.iadd dL_law_3059 ?_
  obtain ⟨h3060, hw⟩ := hw
  refine J.sld dL_law_3060 h3060 ?_
  obtain ⟨hq3061_x2, hw⟩ := hw
  refine uL_312 rfl htr hq3061_x2 dL_law_3061 (by omega) (Nat.le_of_ble_eq_true rfl) hw ?_
  clear hw
  intro r3061 V3061 hw
  refine J.istore (lv' := [(6, .int r3061), (5, .int r3043), (0, .ref 69), (1, .ref x1), (2, .ref x2), (3, .ref x3), (4, .int x4)]) dL_law_3064 (by decide) rfl ?_
  refine J.aload_n 4 dL_law_3066 rfl ?_
  obtain ⟨hq3067_x2, hw⟩ := hw
  refine uL_159 rfl htr hq3067_x2 dL_law_3067 (by omega) (Nat.le_of_ble_eq_true rfl) hw ?_
  clear hw
  intro r3067 hw
  refine J.iload 1 dL_law_3070 rfl ?_
  refine J.icmp_eq 3077 dL_law_3072 (by decide) ⟨fun c3072 => ?_, fun c3072 => ?_⟩
  · obtain ⟨hw, -⟩ := hw
    specialize hw c3072
    refine J.iload 1 dL_law_3077 rfl ?_
    refine J.if_ne 3094 dL_law_3079 (by decide) ⟨fun c3079 => ?_, fun c3079 => ?_⟩
    · obtain ⟨hw, -⟩ := hw
      specialize hw c3079
      refine J.goto 3184 dL_law_3094 (by decide) ?_
      refine J.iincN 6 (K := (6 : Int32)) (lv' := fun y3184 => [(4, .int y3184), (6, .int r3061), (5, .int r3043), (0, .ref 69), (1, .ref x1), (2, .ref x2), (3, .ref x3)]) dL_law_3184 rfl (by decide) (by decide) (fun _ => rfl) hw ?_
      clear hw
      intro y3184 hw
      refine J.goto 23 dL_law_3187 (by decide) ?_
      exact J.pick [3, 4, 5, 6, 0] rfl (hK23 _ _ _ _ _ _ _ _ _ hw)
    · obtain ⟨-, hw⟩ := hw
      specialize hw c3079
      refine J.aload_n 5 dL_law_3082 rfl ?_
      refine J.iconst (v := (0 : Int32)) dL_law_3083 (by decide) ?_
      obtain ⟨f3084, hk3084, hn3084, hw⟩ := hw
      refine JV.lald0 dL_law_3084 hn3084 hk3084 ?_
      refine J.iload 0 dL_law_3085 rfl ?_
      refine J.i2l dL_law_3087 ?_
      refine J.lcmp dL_law_3088 ?_
      refine J.if_eq 3094 dL_law_3089 (by decide) ⟨fun c3089 => ?_, fun c3089 => ?_⟩
      · obtain ⟨hw, -⟩ := hw
        specialize hw c3089
        refine J.goto 3184 dL_law_3094 (by decide) ?_
        refine J.iincN 6 (K := (6 : Int32)) (lv' := fun y3184 => [(4, .int y3184), (6, .int r3061), (5, .int r3043), (0, .ref 69), (1, .ref x1), (2, .ref x2), (3, .ref x3)]) dL_law_3184 rfl (by decide) (by decide) (fun _ => rfl) hw ?_
        clear hw
        intro y3184 hw
        refine J.goto 23 dL_law_3187 (by decide) ?_
        exact J.pick [3, 4, 5, 6, 0] rfl (hK23 _ _ _ _ _ _ _ _ _ hw)
      · obtain ⟨-, hw⟩ := hw
        specialize hw c3089
        refine J.iconst (v := (0 : Int32)) dL_law_3092 (by decide) ?_
        exact J.zret rfl rfl dL_law_3093 ⟨_, _, _, rfl, _, rfl, hw⟩
  · obtain ⟨-, hw⟩ := hw
    specialize hw c3072
    refine J.iconst (v := (0 : Int32)) dL_law_3075 (by decide) ?_
    exact J.zret rfl rfl dL_law_3076 ⟨_, _, _, rfl, _, rfl, hw⟩
def wL_law_3097 (G : jG) (Q : Int32 → List jH → (Nat → Nat → Int32) → (Nat → Nat → Option Nat) → Prop) (K23 : List jH → (Nat → Nat → Int32) → (Nat → Nat → Option Nat) → Nat → Nat → Nat → Nat → Nat → Int32 → Prop) (sh : List jH) (V : Nat → Nat → Int32) (R : Nat → Nat → Option Nat) (c : Nat) (n : Nat) (x1 : Nat) (x2 : Nat) (x3 : Nat) (x4 : Int32) : Prop :=
  (vp_in (x4 + (1 : Int32)) (jScN G) ∧ (jReg shX1 sh x1 ∧ (wX1_seed x1 V (jScF G (x4 + (1 : Int32)).toNatClampNeg) (fun r3104 V3104 => (vp_in (x4 + (1 : Int32)) (jScN G) ∧ (jReg shX6 sh x2 ∧ (wX6_seed x2 V3104 (jScF G (x4 + (1 : Int32)).toNatClampNeg) (fun r3114 V3114 => ((r3104 = r3114 → (∀ y3184 : Int32, y3184 = x4 + (6 : Int32) → K23 sh V3114 R c n x1 x2 x3 y3184)) ∧ (¬ r3104 = r3114 → Q (0 : Int32) sh V3114 R))))))))))
theorem rL_law_3097 {G : jG} {l : Launch} {d : Nat} (htr : l.stackTraces = false) (hdd : 107 ≤ d) {Q : Int32 → List jH → (Nat → Nat → Int32) → (Nat → Nat → Option Nat) → Prop} {K23 : List jH → (Nat → Nat → Int32) → (Nat → Nat → Option Nat) → Nat → Nat → Nat → Nat → Nat → Int32 → Prop} (hK23 : ∀ (sh : List jH) (V : Nat → Nat → Int32) (R : Nat → Nat → Option Nat) (c : Nat) (n : Nat) (x1 : Nat) (x2 : Nat) (x3 : Nat) (x4 : Int32), K23 sh V R c n x1 x2 x3 x4 → J G l ML_law d c n 23 [(0, .ref 69), (1, .ref x1), (2, .ref x2), (3, .ref x3), (4, .int x4)] [] (mk sh V R) (jSr Q) jNo) {sh : List jH} {V : Nat → Nat → Int32} {R : Nat → Nat → Option Nat} {c : Nat} {n : Nat} {x1 : Nat} {x2 : Nat} {x3 : Nat} {x4 : Int32} (hw : wL_law_3097 G Q K23 sh V R c n x1 x2 x3 x4) : J G l ML_law d c n 3097 [(0, .ref 69), (1, .ref x1), (2, .ref x2), (3, .ref x3), (4, .int x4)] [] (mk sh V R) (jSr Q) jNo := by
  unfold wL_law_3097 at hw
  refine J.aload_n 1 dL_law_3097 rfl ?_
  refine J.aload_n 0 dL_law_3098 rfl ?_
  refine J.iload 4 dL_law_3099 rfl ?_
  refine J.iconst (v := (1 : Int32)) dL_law_3101 (by decide) ?_
  refine J.iadd dL_law_3102 ?_
  obtain ⟨h3103, hw⟩ := hw
  refine J.sld dL_law_3103 h3103 ?_
  obtain ⟨hq3104_x1, hw⟩ := hw
  refine uL_313 rfl htr hq3104_x1 dL_law_3104 (by omega) (Nat.le_of_ble_eq_true rfl) hw ?_
  clear hw
  intro r3104 V3104 hw
  refine J.aload_n 2 dL_law_3107 rfl ?_
  refine J.aload_n 0 dL_law_3108 rfl ?_
  refine J.iload 4 dL_law_3109 rfl ?_
  refine J.iconst (v := (1 : Int32)) dL_law_3111 (by decide) ?_
  refine J.iadd dL_law_3112 ?_
  obtain ⟨h3113, hw⟩ := hw
  refine J.sld dL_law_3113 h3113 ?_
  obtain ⟨hq3114_x2, hw⟩ := hw
  refine uL_316 rfl htr hq3114_x2 dL_law_3114 (by omega) (Nat.le_of_ble_eq_true rfl) hw ?_
  clear hw
  intro r3114 V3114 hw
  refine J.icmp_eq 3184 dL_law_3117 (by decide) ⟨fun c3117 => ?_, fun c3117 => ?_⟩
  · obtain ⟨hw, -⟩ := hw
    specialize hw c3117
    refine J.iincN 4 (K := (6 : Int32)) (lv' := fun y3184 => [(4, .int y3184), (0, .ref 69), (1, .ref x1), (2, .ref x2), (3, .ref x3)]) dL_law_3184 rfl (by decide) (by decide) (fun _ => rfl) hw ?_
    clear hw
    intro y3184 hw
    refine J.goto 23 dL_law_3187 (by decide) ?_
    exact J.pick [1, 2, 3, 4, 0] rfl (hK23 _ _ _ _ _ _ _ _ _ hw)
  · obtain ⟨-, hw⟩ := hw
    specialize hw c3117
    refine J.iconst (v := (0 : Int32)) dL_law_3120 (by decide) ?_
    exact J.zret rfl rfl dL_law_3121 ⟨_, _, _, rfl, _, rfl, hw⟩
def wL_law_3122 (G : jG) (Q : Int32 → List jH → (Nat → Nat → Int32) → (Nat → Nat → Option Nat) → Prop) (K23 : List jH → (Nat → Nat → Int32) → (Nat → Nat → Option Nat) → Nat → Nat → Nat → Nat → Nat → Int32 → Prop) (sh : List jH) (V : Nat → Nat → Int32) (R : Nat → Nat → Option Nat) (c : Nat) (n : Nat) (x1 : Nat) (x2 : Nat) (x3 : Nat) (x4 : Int32) : Prop :=
  (jReg shX1 sh x1 ∧ (∃ c13123 n13123 c23123 n23123 : Nat, c13123 + c23123 ≤ c ∧ n13123 + n23123 ≤ n ∧ (wX1_undo x1 sh V R c13123 n13123 (fun r3123 sh3123 V3123 R3123 => (jReg shX6 sh3123 x2 ∧ (wX6_undo x2 V3123 (fun r3127 V3127 => ((r3123 = r3127 → (∀ y3184 : Int32, y3184 = x4 + (6 : Int32) → K23 sh3123 V3127 R3123 c23123 n23123 x1 x2 x3 y3184)) ∧ (¬ r3123 = r3127 → Q (0 : Int32) sh3123 V3127 R3123)))))))))
theorem rL_law_3122 {G : jG} {l : Launch} {d : Nat} (htr : l.stackTraces = false) (hdd : 107 ≤ d) {Q : Int32 → List jH → (Nat → Nat → Int32) → (Nat → Nat → Option Nat) → Prop} {K23 : List jH → (Nat → Nat → Int32) → (Nat → Nat → Option Nat) → Nat → Nat → Nat → Nat → Nat → Int32 → Prop} (hK23 : ∀ (sh : List jH) (V : Nat → Nat → Int32) (R : Nat → Nat → Option Nat) (c : Nat) (n : Nat) (x1 : Nat) (x2 : Nat) (x3 : Nat) (x4 : Int32), K23 sh V R c n x1 x2 x3 x4 → J G l ML_law d c n 23 [(0, .ref 69), (1, .ref x1), (2, .ref x2), (3, .ref x3), (4, .int x4)] [] (mk sh V R) (jSr Q) jNo) {sh : List jH} {V : Nat → Nat → Int32} {R : Nat → Nat → Option Nat} {c : Nat} {n : Nat} {x1 : Nat} {x2 : Nat} {x3 : Nat} {x4 : Int32} (hw : wL_law_3122 G Q K23 sh V R c n x1 x2 x3 x4) : J G l ML_law d c n 3122 [(0, .ref 69), (1, .ref x1), (2, .ref x2), (3, .ref x3), (4, .int x4)] [] (mk sh V R) (jSr Q) jNo := by
  unfold wL_law_3122 at hw
  refine J.aload_n 1 dL_law_3122 rfl ?_
  obtain ⟨hq3123_x1, hw⟩ := hw
  obtain ⟨c13123, n13123, c23123, n23123, hc3123, hd3123, hw⟩ := hw
  refine uL_317 rfl htr hq3123_x1 dL_law_3123 (by omega) (Nat.le_of_ble_eq_true rfl) hw ⟨hc3123, hd3123⟩ ?_
  clear hw
  intro r3123 sh3123 V3123 R3123 hw
  refine J.aload_n 2 dL_law_3126 rfl ?_
  obtain ⟨hq3127_x2, hw⟩ := hw
  refine uL_321 rfl htr hq3127_x2 dL_law_3127 (by omega) (Nat.le_of_ble_eq_true rfl) hw ?_
  clear hw
  intro r3127 V3127 hw
  refine J.icmp_eq 3184 dL_law_3130 (by decide) ⟨fun c3130 => ?_, fun c3130 => ?_⟩
  · obtain ⟨hw, -⟩ := hw
    specialize hw c3130
    refine J.iincN 4 (K := (6 : Int32)) (lv' := fun y3184 => [(4, .int y3184), (0, .ref 69), (1, .ref x1), (2, .ref x2), (3, .ref x3)]) dL_law_3184 rfl (by decide) (by decide) (fun _ => rfl) hw ?_
    clear hw
    intro y3184 hw
    refine J.goto 23 dL_law_3187 (by decide) ?_
    exact J.pick [1, 2, 3, 4, 0] rfl (hK23 _ _ _ _ _ _ _ _ _ hw)
  · obtain ⟨-, hw⟩ := hw
    specialize hw c3130
    refine J.iconst (v := (0 : Int32)) dL_law_3133 (by decide) ?_
    exact J.zret rfl rfl dL_law_3134 ⟨_, _, _, rfl, _, rfl, hw⟩
def wL_law_3135 (G : jG) (Q : Int32 → List jH → (Nat → Nat → Int32) → (Nat → Nat → Option Nat) → Prop) (K23 : List jH → (Nat → Nat → Int32) → (Nat → Nat → Option Nat) → Nat → Nat → Nat → Nat → Nat → Int32 → Prop) (sh : List jH) (V : Nat → Nat → Int32) (R : Nat → Nat → Option Nat) (c : Nat) (n : Nat) (x1 : Nat) (x2 : Nat) (x3 : Nat) (x4 : Int32) : Prop :=
  (jReg shX1 sh x1 ∧ (wX1_image x1 sh V R (fun V3136 R3136 => (jReg shX6 sh x2 ∧ (wX6_image x2 V3136 (fun V3140 => (∀ y3184 : Int32, y3184 = x4 + (6 : Int32) → K23 sh V3140 R3136 c n x1 x2 x3 y3184)))))))
theorem rL_law_3135 {G : jG} {l : Launch} {d : Nat} (htr : l.stackTraces = false) (hdd : 107 ≤ d) {Q : Int32 → List jH → (Nat → Nat → Int32) → (Nat → Nat → Option Nat) → Prop} {K23 : List jH → (Nat → Nat → Int32) → (Nat → Nat → Option Nat) → Nat → Nat → Nat → Nat → Nat → Int32 → Prop} (hK23 : ∀ (sh : List jH) (V : Nat → Nat → Int32) (R : Nat → Nat → Option Nat) (c : Nat) (n : Nat) (x1 : Nat) (x2 : Nat) (x3 : Nat) (x4 : Int32), K23 sh V R c n x1 x2 x3 x4 → J G l ML_law d c n 23 [(0, .ref 69), (1, .ref x1), (2, .ref x2), (3, .ref x3), (4, .int x4)] [] (mk sh V R) (jSr Q) jNo) {sh : List jH} {V : Nat → Nat → Int32} {R : Nat → Nat → Option Nat} {c : Nat} {n : Nat} {x1 : Nat} {x2 : Nat} {x3 : Nat} {x4 : Int32} (hw : wL_law_3135 G Q K23 sh V R c n x1 x2 x3 x4) : J G l ML_law d c n 3135 [(0, .ref 69), (1, .ref x1), (2, .ref x2), (3, .ref x3), (4, .int x4)] [] (mk sh V R) (jSr Q) jNo := by
  unfold wL_law_3135 at hw
  refine J.aload_n 1 dL_law_3135 rfl ?_
  obtain ⟨hq3136_x1, hw⟩ := hw
  refine uL_322 rfl htr hq3136_x1 dL_law_3136 (by omega) (Nat.le_of_ble_eq_true rfl) hw ?_
  clear hw
  intro V3136 R3136 hw
  refine J.aload_n 2 dL_law_3139 rfl ?_
  obtain ⟨hq3140_x2, hw⟩ := hw
  refine uL_325 rfl htr hq3140_x2 dL_law_3140 (by omega) (Nat.le_of_ble_eq_true rfl) hw ?_
  clear hw
  intro V3140 hw
  refine J.goto 3184 dL_law_3143 (by decide) ?_
  refine J.iincN 4 (K := (6 : Int32)) (lv' := fun y3184 => [(4, .int y3184), (0, .ref 69), (1, .ref x1), (2, .ref x2), (3, .ref x3)]) dL_law_3184 rfl (by decide) (by decide) (fun _ => rfl) hw ?_
  clear hw
  intro y3184 hw
  refine J.goto 23 dL_law_3187 (by decide) ?_
  exact J.pick [1, 2, 3, 4, 0] rfl (hK23 _ _ _ _ _ _ _ _ _ hw)
def wL_law_3146 (G : jG) (Q : Int32 → List jH → (Nat → Nat → Int32) → (Nat → Nat → Option Nat) → Prop) (K23 : List jH → (Nat → Nat → Int32) → (Nat → Nat → Option Nat) → Nat → Nat → Nat → Nat → Nat → Int32 → Prop) (sh : List jH) (V : Nat → Nat → Int32) (R : Nat → Nat → Option Nat) (c : Nat) (n : Nat) (x1 : Nat) (x2 : Nat) (x3 : Nat) (x4 : Int32) : Prop :=
  (jReg shX1 sh x1 ∧ (∃ c13147 n13147 c23147 n23147 : Nat, c13147 + c23147 ≤ c ∧ n13147 + n23147 ≤ n ∧ (wX1_back x1 sh V R c13147 n13147 (fun r3147 sh3147 V3147 R3147 => (jReg shX6 sh3147 x2 ∧ (wX6_back x2 V3147 (fun r3151 V3151 => ((r3147 = r3151 → (∀ y3184 : Int32, y3184 = x4 + (6 : Int32) → K23 sh3147 V3151 R3147 c23147 n23147 x1 x2 x3 y3184)) ∧ (¬ r3147 = r3151 → Q (0 : Int32) sh3147 V3151 R3147)))))))))
theorem rL_law_3146 {G : jG} {l : Launch} {d : Nat} (htr : l.stackTraces = false) (hdd : 107 ≤ d) {Q : Int32 → List jH → (Nat → Nat → Int32) → (Nat → Nat → Option Nat) → Prop} {K23 : List jH → (Nat → Nat → Int32) → (Nat → Nat → Option Nat) → Nat → Nat → Nat → Nat → Nat → Int32 → Prop} (hK23 : ∀ (sh : List jH) (V : Nat → Nat → Int32) (R : Nat → Nat → Option Nat) (c : Nat) (n : Nat) (x1 : Nat) (x2 : Nat) (x3 : Nat) (x4 : Int32), K23 sh V R c n x1 x2 x3 x4 → J G l ML_law d c n 23 [(0, .ref 69), (1, .ref x1), (2, .ref x2), (3, .ref x3), (4, .int x4)] [] (mk sh V R) (jSr Q) jNo) {sh : List jH} {V : Nat → Nat → Int32} {R : Nat → Nat → Option Nat} {c : Nat} {n : Nat} {x1 : Nat} {x2 : Nat} {x3 : Nat} {x4 : Int32} (hw : wL_law_3146 G Q K23 sh V R c n x1 x2 x3 x4) : J G l ML_law d c n 3146 [(0, .ref 69), (1, .ref x1), (2, .ref x2), (3, .ref x3), (4, .int x4)] [] (mk sh V R) (jSr Q) jNo := by
  unfold wL_law_3146 at hw
  refine J.aload_n 1 dL_law_3146 rfl ?_
  obtain ⟨hq3147_x1, hw⟩ := hw
  obtain ⟨c13147, n13147, c23147, n23147, hc3147, hd3147, hw⟩ := hw
  refine uL_326 rfl htr hq3147_x1 dL_law_3147 (by omega) (Nat.le_of_ble_eq_true rfl) hw ⟨hc3147, hd3147⟩ ?_
  clear hw
  intro r3147 sh3147 V3147 R3147 hw
  refine J.aload_n 2 dL_law_3150 rfl ?_
  obtain ⟨hq3151_x2, hw⟩ := hw
  refine uL_329 rfl htr hq3151_x2 dL_law_3151 (by omega) (Nat.le_of_ble_eq_true rfl) hw ?_
  clear hw
  intro r3151 V3151 hw
  refine J.icmp_eq 3184 dL_law_3154 (by decide) ⟨fun c3154 => ?_, fun c3154 => ?_⟩
  · obtain ⟨hw, -⟩ := hw
    specialize hw c3154
    refine J.iincN 4 (K := (6 : Int32)) (lv' := fun y3184 => [(4, .int y3184), (0, .ref 69), (1, .ref x1), (2, .ref x2), (3, .ref x3)]) dL_law_3184 rfl (by decide) (by decide) (fun _ => rfl) hw ?_
    clear hw
    intro y3184 hw
    refine J.goto 23 dL_law_3187 (by decide) ?_
    exact J.pick [1, 2, 3, 4, 0] rfl (hK23 _ _ _ _ _ _ _ _ _ hw)
  · obtain ⟨-, hw⟩ := hw
    specialize hw c3154
    refine J.iconst (v := (0 : Int32)) dL_law_3157 (by decide) ?_
    exact J.zret rfl rfl dL_law_3158 ⟨_, _, _, rfl, _, rfl, hw⟩
def wL_law_3159 (G : jG) (Q : Int32 → List jH → (Nat → Nat → Int32) → (Nat → Nat → Option Nat) → Prop) (K23 : List jH → (Nat → Nat → Int32) → (Nat → Nat → Option Nat) → Nat → Nat → Nat → Nat → Nat → Int32 → Prop) (sh : List jH) (V : Nat → Nat → Int32) (R : Nat → Nat → Option Nat) (c : Nat) (n : Nat) (x1 : Nat) (x2 : Nat) (x3 : Nat) (x4 : Int32) : Prop :=
  (vp_in (x4 + (1 : Int32)) (jScN G) ∧ (jReg shX1 sh x1 ∧ (wX1_count x1 sh V R (jScF G (x4 + (1 : Int32)).toNatClampNeg) (fun r3166 => (vp_in (x4 + (1 : Int32)) (jScN G) ∧ (jReg shX6 sh x2 ∧ (wX6_count x2 V (jScF G (x4 + (1 : Int32)).toNatClampNeg) (fun r3176 V3176 => ((r3166 = r3176 → (∀ y3184 : Int32, y3184 = x4 + (6 : Int32) → K23 sh V3176 R c n x1 x2 x3 y3184)) ∧ (¬ r3166 = r3176 → Q (0 : Int32) sh V3176 R))))))))))
theorem rL_law_3159 {G : jG} {l : Launch} {d : Nat} (htr : l.stackTraces = false) (hdd : 107 ≤ d) {Q : Int32 → List jH → (Nat → Nat → Int32) → (Nat → Nat → Option Nat) → Prop} {K23 : List jH → (Nat → Nat → Int32) → (Nat → Nat → Option Nat) → Nat → Nat → Nat → Nat → Nat → Int32 → Prop} (hK23 : ∀ (sh : List jH) (V : Nat → Nat → Int32) (R : Nat → Nat → Option Nat) (c : Nat) (n : Nat) (x1 : Nat) (x2 : Nat) (x3 : Nat) (x4 : Int32), K23 sh V R c n x1 x2 x3 x4 → J G l ML_law d c n 23 [(0, .ref 69), (1, .ref x1), (2, .ref x2), (3, .ref x3), (4, .int x4)] [] (mk sh V R) (jSr Q) jNo) {sh : List jH} {V : Nat → Nat → Int32} {R : Nat → Nat → Option Nat} {c : Nat} {n : Nat} {x1 : Nat} {x2 : Nat} {x3 : Nat} {x4 : Int32} (hw : wL_law_3159 G Q K23 sh V R c n x1 x2 x3 x4) : J G l ML_law d c n 3159 [(0, .ref 69), (1, .ref x1), (2, .ref x2), (3, .ref x3), (4, .int x4)] [] (mk sh V R) (jSr Q) jNo := by
  unfold wL_law_3159 at hw
  refine J.aload_n 1 dL_law_3159 rfl ?_
  refine J.aload_n 0 dL_law_3160 rfl ?_
  refine J.iload 4 dL_law_3161 rfl ?_
  refine J.iconst (v := (1 : Int32)) dL_law_3163 (by decide) ?_
  refine J.iadd dL_law_3164 ?_
  obtain ⟨h3165, hw⟩ := hw
  refine J.sld dL_law_3165 h3165 ?_
  obtain ⟨hq3166_x1, hw⟩ := hw
  refine uL_330 rfl htr hq3166_x1 dL_law_3166 (by omega) (Nat.le_of_ble_eq_true rfl) hw ?_
  clear hw
  intro r3166 hw
  refine J.aload_n 2 dL_law_3169 rfl ?_
  refine J.aload_n 0 dL_law_3170 rfl ?_
  refine J.iload 4 dL_law_3171 rfl ?_
  refine J.iconst (v := (1 : Int32)) dL_law_3173 (by decide) ?_
  refine J.iadd dL_law_3174 ?_
  obtain ⟨h3175, hw⟩ := hw
  refine J.sld dL_law_3175 h3175 ?_
  obtain ⟨hq3176_x2, hw⟩ := hw
  refine uL_333 rfl htr hq3176_x2 dL_law_3176 (by omega) (Nat.le_of_ble_eq_true rfl) hw ?_
  clear hw
  intro r3176 V3176 hw
  refine J.icmp_eq 3184 dL_law_3179 (by decide) ⟨fun c3179 => ?_, fun c3179 => ?_⟩
  · obtain ⟨hw, -⟩ := hw
    specialize hw c3179
    refine J.iincN 4 (K := (6 : Int32)) (lv' := fun y3184 => [(4, .int y3184), (0, .ref 69), (1, .ref x1), (2, .ref x2), (3, .ref x3)]) dL_law_3184 rfl (by decide) (by decide) (fun _ => rfl) hw ?_
    clear hw
    intro y3184 hw
    refine J.goto 23 dL_law_3187 (by decide) ?_
    exact J.pick [1, 2, 3, 4, 0] rfl (hK23 _ _ _ _ _ _ _ _ _ hw)
  · obtain ⟨-, hw⟩ := hw
    specialize hw c3179
    refine J.iconst (v := (0 : Int32)) dL_law_3182 (by decide) ?_
    exact J.zret rfl rfl dL_law_3183 ⟨_, _, _, rfl, _, rfl, hw⟩
def wL_law_23 (G : jG) (Q : Int32 → List jH → (Nat → Nat → Int32) → (Nat → Nat → Option Nat) → Prop) : Nat → List jH → (Nat → Nat → Int32) → (Nat → Nat → Option Nat) → Nat → Nat → Nat → Nat → Nat → Int32 → Prop
  | 0, _, _, _, _, _, _, _, _, _ => False
  | f + 1, sh, V, R, c, n, x1, x2, x3, x4 =>
    ((((Int32.ofNat (jScN G)) - (6 : Int32)) < x4 → Q (1 : Int32) sh V R) ∧ (¬ ((Int32.ofNat (jScN G)) - (6 : Int32)) < x4 → (vp_in x4 (jScN G) ∧ (∀ y40 : Int32, y40 = ((jScF G x4.toNatClampNeg) &&& (63 : Int32)) → ((y40 = (0 : Int32) → wL_law_268 G Q (fun sh V R c n x1 x2 x3 x4 => wL_law_23 G Q f sh V R c n x1 x2 x3 x4) sh V R c n x1 x2 x3 x4) ∧ (¬ y40 = (0 : Int32) → ((y40 = (1 : Int32) → wL_law_341 G Q (fun sh V R c n x1 x2 x3 x4 => wL_law_23 G Q f sh V R c n x1 x2 x3 x4) sh V R c n x1 x2 x3 x4) ∧ (¬ y40 = (1 : Int32) → ((y40 = (2 : Int32) → wL_law_366 G Q (fun sh V R c n x1 x2 x3 x4 => wL_law_23 G Q f sh V R c n x1 x2 x3 x4) sh V R c n x1 x2 x3 x4) ∧ (¬ y40 = (2 : Int32) → ((y40 = (3 : Int32) → wL_law_410 G Q (fun sh V R c n x1 x2 x3 x4 => wL_law_23 G Q f sh V R c n x1 x2 x3 x4) sh V R c n x1 x2 x3 x4) ∧ (¬ y40 = (3 : Int32) → ((y40 = (4 : Int32) → wL_law_454 G Q (fun sh V R c n x1 x2 x3 x4 => wL_law_23 G Q f sh V R c n x1 x2 x3 x4) sh V R c n x1 x2 x3 x4) ∧ (¬ y40 = (4 : Int32) → ((y40 = (5 : Int32) → wL_law_467 G Q (fun sh V R c n x1 x2 x3 x4 => wL_law_23 G Q f sh V R c n x1 x2 x3 x4) sh V R c n x1 x2 x3 x4) ∧ (¬ y40 = (5 : Int32) → ((y40 = (6 : Int32) → wL_law_535 G Q (fun sh V R c n x1 x2 x3 x4 => wL_law_23 G Q f sh V R c n x1 x2 x3 x4) sh V R c n x1 x2 x3 x4) ∧ (¬ y40 = (6 : Int32) → ((y40 = (7 : Int32) → wL_law_603 G Q (fun sh V R c n x1 x2 x3 x4 => wL_law_23 G Q f sh V R c n x1 x2 x3 x4) sh V R c n x1 x2 x3 x4) ∧ (¬ y40 = (7 : Int32) → ((y40 = (8 : Int32) → wL_law_699 G Q (fun sh V R c n x1 x2 x3 x4 => wL_law_23 G Q f sh V R c n x1 x2 x3 x4) sh V R c n x1 x2 x3 x4) ∧ (¬ y40 = (8 : Int32) → ((y40 = (9 : Int32) → wL_law_767 G Q (fun sh V R c n x1 x2 x3 x4 => wL_law_23 G Q f sh V R c n x1 x2 x3 x4) sh V R c n x1 x2 x3 x4) ∧ (¬ y40 = (9 : Int32) → ((y40 = (10 : Int32) → wL_law_854 G Q (fun sh V R c n x1 x2 x3 x4 => wL_law_23 G Q f sh V R c n x1 x2 x3 x4) sh V R c n x1 x2 x3 x4) ∧ (¬ y40 = (10 : Int32) → ((y40 = (11 : Int32) → wL_law_941 G Q (fun sh V R c n x1 x2 x3 x4 => wL_law_23 G Q f sh V R c n x1 x2 x3 x4) sh V R c n x1 x2 x3 x4) ∧ (¬ y40 = (11 : Int32) → ((y40 = (12 : Int32) → wL_law_1021 G Q (fun sh V R c n x1 x2 x3 x4 => wL_law_23 G Q f sh V R c n x1 x2 x3 x4) sh V R c n x1 x2 x3 x4) ∧ (¬ y40 = (12 : Int32) → ((y40 = (13 : Int32) → wL_law_1101 G Q (fun sh V R c n x1 x2 x3 x4 => wL_law_23 G Q f sh V R c n x1 x2 x3 x4) sh V R c n x1 x2 x3 x4) ∧ (¬ y40 = (13 : Int32) → ((y40 = (14 : Int32) → wL_law_1169 G Q (fun sh V R c n x1 x2 x3 x4 => wL_law_23 G Q f sh V R c n x1 x2 x3 x4) sh V R c n x1 x2 x3 x4) ∧ (¬ y40 = (14 : Int32) → ((y40 = (15 : Int32) → wL_law_1249 G Q (fun sh V R c n x1 x2 x3 x4 => wL_law_23 G Q f sh V R c n x1 x2 x3 x4) sh V R c n x1 x2 x3 x4) ∧ (¬ y40 = (15 : Int32) → ((y40 = (16 : Int32) → wL_law_1317 G Q (fun sh V R c n x1 x2 x3 x4 => wL_law_23 G Q f sh V R c n x1 x2 x3 x4) sh V R c n x1 x2 x3 x4) ∧ (¬ y40 = (16 : Int32) → ((y40 = (17 : Int32) → wL_law_1385 G Q (fun sh V R c n x1 x2 x3 x4 => wL_law_23 G Q f sh V R c n x1 x2 x3 x4) sh V R c n x1 x2 x3 x4) ∧ (¬ y40 = (17 : Int32) → ((y40 = (18 : Int32) → wL_law_1493 G Q (fun sh V R c n x1 x2 x3 x4 => wL_law_23 G Q f sh V R c n x1 x2 x3 x4) sh V R c n x1 x2 x3 x4) ∧ (¬ y40 = (18 : Int32) → ((y40 = (19 : Int32) → wL_law_1549 G Q (fun sh V R c n x1 x2 x3 x4 => wL_law_23 G Q f sh V R c n x1 x2 x3 x4) sh V R c n x1 x2 x3 x4) ∧ (¬ y40 = (19 : Int32) → ((y40 = (20 : Int32) → wL_law_1590 G Q (fun sh V R c n x1 x2 x3 x4 => wL_law_23 G Q f sh V R c n x1 x2 x3 x4) sh V R c n x1 x2 x3 x4) ∧ (¬ y40 = (20 : Int32) → ((y40 = (21 : Int32) → wL_law_1603 G Q (fun sh V R c n x1 x2 x3 x4 => wL_law_23 G Q f sh V R c n x1 x2 x3 x4) sh V R c n x1 x2 x3 x4) ∧ (¬ y40 = (21 : Int32) → ((y40 = (22 : Int32) → wL_law_1616 G Q (fun sh V R c n x1 x2 x3 x4 => wL_law_23 G Q f sh V R c n x1 x2 x3 x4) sh V R c n x1 x2 x3 x4) ∧ (¬ y40 = (22 : Int32) → ((y40 = (23 : Int32) → wL_law_1672 G Q (fun sh V R c n x1 x2 x3 x4 => wL_law_23 G Q f sh V R c n x1 x2 x3 x4) sh V R c n x1 x2 x3 x4) ∧ (¬ y40 = (23 : Int32) → ((y40 = (24 : Int32) → wL_law_1728 G Q (fun sh V R c n x1 x2 x3 x4 => wL_law_23 G Q f sh V R c n x1 x2 x3 x4) sh V R c n x1 x2 x3 x4) ∧ (¬ y40 = (24 : Int32) → ((y40 = (25 : Int32) → wL_law_1741 G Q (fun sh V R c n x1 x2 x3 x4 => wL_law_23 G Q f sh V R c n x1 x2 x3 x4) sh V R c n x1 x2 x3 x4) ∧ (¬ y40 = (25 : Int32) → ((y40 = (26 : Int32) → wL_law_1785 G Q (fun sh V R c n x1 x2 x3 x4 => wL_law_23 G Q f sh V R c n x1 x2 x3 x4) sh V R c n x1 x2 x3 x4) ∧ (¬ y40 = (26 : Int32) → ((y40 = (27 : Int32) → wL_law_1881 G Q (fun sh V R c n x1 x2 x3 x4 => wL_law_23 G Q f sh V R c n x1 x2 x3 x4) sh V R c n x1 x2 x3 x4) ∧ (¬ y40 = (27 : Int32) → ((y40 = (28 : Int32) → wL_law_1949 G Q (fun sh V R c n x1 x2 x3 x4 => wL_law_23 G Q f sh V R c n x1 x2 x3 x4) sh V R c n x1 x2 x3 x4) ∧ (¬ y40 = (28 : Int32) → ((y40 = (29 : Int32) → wL_law_2021 G Q (fun sh V R c n x1 x2 x3 x4 => wL_law_23 G Q f sh V R c n x1 x2 x3 x4) sh V R c n x1 x2 x3 x4) ∧ (¬ y40 = (29 : Int32) → ((y40 = (30 : Int32) → wL_law_2065 G Q (fun sh V R c n x1 x2 x3 x4 => wL_law_23 G Q f sh V R c n x1 x2 x3 x4) sh V R c n x1 x2 x3 x4) ∧ (¬ y40 = (30 : Int32) → ((y40 = (31 : Int32) → wL_law_2137 G Q (fun sh V R c n x1 x2 x3 x4 => wL_law_23 G Q f sh V R c n x1 x2 x3 x4) sh V R c n x1 x2 x3 x4) ∧ (¬ y40 = (31 : Int32) → ((y40 = (32 : Int32) → wL_law_2150 G Q (fun sh V R c n x1 x2 x3 x4 => wL_law_23 G Q f sh V R c n x1 x2 x3 x4) sh V R c n x1 x2 x3 x4) ∧ (¬ y40 = (32 : Int32) → ((y40 = (33 : Int32) → wL_law_2218 G Q (fun sh V R c n x1 x2 x3 x4 => wL_law_23 G Q f sh V R c n x1 x2 x3 x4) sh V R c n x1 x2 x3 x4) ∧ (¬ y40 = (33 : Int32) → ((y40 = (34 : Int32) → wL_law_2274 G Q (fun sh V R c n x1 x2 x3 x4 => wL_law_23 G Q f sh V R c n x1 x2 x3 x4) sh V R c n x1 x2 x3 x4) ∧ (¬ y40 = (34 : Int32) → ((y40 = (35 : Int32) → wL_law_2342 G Q (fun sh V R c n x1 x2 x3 x4 => wL_law_23 G Q f sh V R c n x1 x2 x3 x4) sh V R c n x1 x2 x3 x4) ∧ (¬ y40 = (35 : Int32) → ((y40 = (36 : Int32) → wL_law_2410 G Q (fun sh V R c n x1 x2 x3 x4 => wL_law_23 G Q f sh V R c n x1 x2 x3 x4) sh V R c n x1 x2 x3 x4) ∧ (¬ y40 = (36 : Int32) → ((y40 = (37 : Int32) → wL_law_2478 G Q (fun sh V R c n x1 x2 x3 x4 => wL_law_23 G Q f sh V R c n x1 x2 x3 x4) sh V R c n x1 x2 x3 x4) ∧ (¬ y40 = (37 : Int32) → ((y40 = (38 : Int32) → wL_law_2546 G Q (fun sh V R c n x1 x2 x3 x4 => wL_law_23 G Q f sh V R c n x1 x2 x3 x4) sh V R c n x1 x2 x3 x4) ∧ (¬ y40 = (38 : Int32) → ((y40 = (39 : Int32) → wL_law_2559 G Q (fun sh V R c n x1 x2 x3 x4 => wL_law_23 G Q f sh V R c n x1 x2 x3 x4) sh V R c n x1 x2 x3 x4) ∧ (¬ y40 = (39 : Int32) → ((y40 = (40 : Int32) → wL_law_2572 G Q (fun sh V R c n x1 x2 x3 x4 => wL_law_23 G Q f sh V R c n x1 x2 x3 x4) sh V R c n x1 x2 x3 x4) ∧ (¬ y40 = (40 : Int32) → ((y40 = (41 : Int32) → wL_law_2585 G Q (fun sh V R c n x1 x2 x3 x4 => wL_law_23 G Q f sh V R c n x1 x2 x3 x4) sh V R c n x1 x2 x3 x4) ∧ (¬ y40 = (41 : Int32) → ((y40 = (42 : Int32) → wL_law_2641 G Q (fun sh V R c n x1 x2 x3 x4 => wL_law_23 G Q f sh V R c n x1 x2 x3 x4) sh V R c n x1 x2 x3 x4) ∧ (¬ y40 = (42 : Int32) → ((y40 = (43 : Int32) → wL_law_2697 G Q (fun sh V R c n x1 x2 x3 x4 => wL_law_23 G Q f sh V R c n x1 x2 x3 x4) sh V R c n x1 x2 x3 x4) ∧ (¬ y40 = (43 : Int32) → ((y40 = (44 : Int32) → wL_law_2777 G Q (fun sh V R c n x1 x2 x3 x4 => wL_law_23 G Q f sh V R c n x1 x2 x3 x4) sh V R c n x1 x2 x3 x4) ∧ (¬ y40 = (44 : Int32) → ((y40 = (45 : Int32) → wL_law_2861 G Q (fun sh V R c n x1 x2 x3 x4 => wL_law_23 G Q f sh V R c n x1 x2 x3 x4) sh V R c n x1 x2 x3 x4) ∧ (¬ y40 = (45 : Int32) → ((y40 = (46 : Int32) → wL_law_2945 G Q (fun sh V R c n x1 x2 x3 x4 => wL_law_23 G Q f sh V R c n x1 x2 x3 x4) sh V R c n x1 x2 x3 x4) ∧ (¬ y40 = (46 : Int32) → ((y40 = (47 : Int32) → wL_law_3029 G Q (fun sh V R c n x1 x2 x3 x4 => wL_law_23 G Q f sh V R c n x1 x2 x3 x4) sh V R c n x1 x2 x3 x4) ∧ (¬ y40 = (47 : Int32) → ((y40 = (48 : Int32) → wL_law_3097 G Q (fun sh V R c n x1 x2 x3 x4 => wL_law_23 G Q f sh V R c n x1 x2 x3 x4) sh V R c n x1 x2 x3 x4) ∧ (¬ y40 = (48 : Int32) → ((y40 = (49 : Int32) → wL_law_3122 G Q (fun sh V R c n x1 x2 x3 x4 => wL_law_23 G Q f sh V R c n x1 x2 x3 x4) sh V R c n x1 x2 x3 x4) ∧ (¬ y40 = (49 : Int32) → ((y40 = (50 : Int32) → wL_law_3135 G Q (fun sh V R c n x1 x2 x3 x4 => wL_law_23 G Q f sh V R c n x1 x2 x3 x4) sh V R c n x1 x2 x3 x4) ∧ (¬ y40 = (50 : Int32) → ((y40 = (51 : Int32) → wL_law_3146 G Q (fun sh V R c n x1 x2 x3 x4 => wL_law_23 G Q f sh V R c n x1 x2 x3 x4) sh V R c n x1 x2 x3 x4) ∧ (¬ y40 = (51 : Int32) → ((y40 = (52 : Int32) → wL_law_3159 G Q (fun sh V R c n x1 x2 x3 x4 => wL_law_23 G Q f sh V R c n x1 x2 x3 x4) sh V R c n x1 x2 x3 x4) ∧ (¬ y40 = (52 : Int32) → (∀ y3184 : Int32, y3184 = x4 + (6 : Int32) → wL_law_23 G Q f sh V R c n x1 x2 x3 y3184)))))))))))))))))))))))))))))))))))))))))))))))))))))))))))))))))))))))))))))))))))))))))))))))))))))))))))))))
theorem rL_law_23 {G : jG} {l : Launch} {d : Nat} (htr : l.stackTraces = false) (hdd : 107 ≤ d) {Q : Int32 → List jH → (Nat → Nat → Int32) → (Nat → Nat → Option Nat) → Prop} : ∀ (f : Nat) (sh : List jH) (V : Nat → Nat → Int32) (R : Nat → Nat → Option Nat) (c : Nat) (n : Nat) (x1 : Nat) (x2 : Nat) (x3 : Nat) (x4 : Int32), wL_law_23 G Q f sh V R c n x1 x2 x3 x4 → J G l ML_law d c n 23 [(0, .ref 69), (1, .ref x1), (2, .ref x2), (3, .ref x3), (4, .int x4)] [] (mk sh V R) (jSr Q) jNo := by
  intro f
  induction f with
  | zero =>
    intro sh V R c n x1 x2 x3 x4 hw
    rw [wL_law_23] at hw
    exact hw.elim
  | succ f ih =>
    intro sh V R c n x1 x2 x3 x4 hw
    rw [wL_law_23] at hw
    refine J.iload 4 dL_law_23 rfl ?_
    refine J.aload_n 0 dL_law_25 rfl ?_
    refine J.slen dL_law_26 ?_
    refine J.bipush (v := (6 : Int32)) dL_law_27 (by decide) ?_
    refine J.isub dL_law_29 ?_
    refine J.icmp_gt 3190 dL_law_30 (by decide) ⟨fun c30 => ?_, fun c30 => ?_⟩
    · obtain ⟨hw, -⟩ := hw
      specialize hw c30
      refine J.iconst (v := (1 : Int32)) dL_law_3190 (by decide) ?_
      exact J.zret rfl rfl dL_law_3191 ⟨_, _, _, rfl, _, rfl, hw⟩
    · obtain ⟨-, hw⟩ := hw
      specialize hw c30
      refine J.aload_n 0 dL_law_33 rfl ?_
      refine J.iload 4 dL_law_34 rfl ?_
      obtain ⟨h36, hw⟩ := hw
      refine J.sld dL_law_36 h36 ?_
      refine J.bipush (v := (63 : Int32)) dL_law_37 (by decide) ?_
      refine J.iand dL_law_39 ?_
      refine J.nm hw ?_
      clear hw
      intro y40 hw
      by_cases c40_0 : y40 = (0 : Int32)
      · obtain ⟨hw, -⟩ := hw
        specialize hw c40_0
        refine J.tableIn 268 dL_law_40 (by rw [c40_0]; decide) (by rw [c40_0]; decide) (by rw [c40_0]; rfl) (by decide) ?_
        exact (rL_law_268 htr hdd ih hw)
      · obtain ⟨-, hw⟩ := hw
        specialize hw c40_0
        by_cases c40_1 : y40 = (1 : Int32)
        · obtain ⟨hw, -⟩ := hw
          specialize hw c40_1
          refine J.tableIn 341 dL_law_40 (by rw [c40_1]; decide) (by rw [c40_1]; decide) (by rw [c40_1]; rfl) (by decide) ?_
          exact (rL_law_341 htr hdd ih hw)
        · obtain ⟨-, hw⟩ := hw
          specialize hw c40_1
          by_cases c40_2 : y40 = (2 : Int32)
          · obtain ⟨hw, -⟩ := hw
            specialize hw c40_2
            refine J.tableIn 366 dL_law_40 (by rw [c40_2]; decide) (by rw [c40_2]; decide) (by rw [c40_2]; rfl) (by decide) ?_
            exact (rL_law_366 htr hdd ih hw)
          · obtain ⟨-, hw⟩ := hw
            specialize hw c40_2
            by_cases c40_3 : y40 = (3 : Int32)
            · obtain ⟨hw, -⟩ := hw
              specialize hw c40_3
              refine J.tableIn 410 dL_law_40 (by rw [c40_3]; decide) (by rw [c40_3]; decide) (by rw [c40_3]; rfl) (by decide) ?_
              exact (rL_law_410 htr hdd ih hw)
            · obtain ⟨-, hw⟩ := hw
              specialize hw c40_3
              by_cases c40_4 : y40 = (4 : Int32)
              · obtain ⟨hw, -⟩ := hw
                specialize hw c40_4
                refine J.tableIn 454 dL_law_40 (by rw [c40_4]; decide) (by rw [c40_4]; decide) (by rw [c40_4]; rfl) (by decide) ?_
                exact (rL_law_454 htr hdd ih hw)
              · obtain ⟨-, hw⟩ := hw
                specialize hw c40_4
                by_cases c40_5 : y40 = (5 : Int32)
                · obtain ⟨hw, -⟩ := hw
                  specialize hw c40_5
                  refine J.tableIn 467 dL_law_40 (by rw [c40_5]; decide) (by rw [c40_5]; decide) (by rw [c40_5]; rfl) (by decide) ?_
                  exact (rL_law_467 htr hdd ih hw)
                · obtain ⟨-, hw⟩ := hw
                  specialize hw c40_5
                  by_cases c40_6 : y40 = (6 : Int32)
                  · obtain ⟨hw, -⟩ := hw
                    specialize hw c40_6
                    refine J.tableIn 535 dL_law_40 (by rw [c40_6]; decide) (by rw [c40_6]; decide) (by rw [c40_6]; rfl) (by decide) ?_
                    exact (rL_law_535 htr hdd ih hw)
                  · obtain ⟨-, hw⟩ := hw
                    specialize hw c40_6
                    by_cases c40_7 : y40 = (7 : Int32)
                    · obtain ⟨hw, -⟩ := hw
                      specialize hw c40_7
                      refine J.tableIn 603 dL_law_40 (by rw [c40_7]; decide) (by rw [c40_7]; decide) (by rw [c40_7]; rfl) (by decide) ?_
                      exact (rL_law_603 htr hdd ih hw)
                    · obtain ⟨-, hw⟩ := hw
                      specialize hw c40_7
                      by_cases c40_8 : y40 = (8 : Int32)
                      · obtain ⟨hw, -⟩ := hw
                        specialize hw c40_8
                        refine J.tableIn 699 dL_law_40 (by rw [c40_8]; decide) (by rw [c40_8]; decide) (by rw [c40_8]; rfl) (by decide) ?_
                        exact (rL_law_699 htr hdd ih hw)
                      · obtain ⟨-, hw⟩ := hw
                        specialize hw c40_8
                        by_cases c40_9 : y40 = (9 : Int32)
                        · obtain ⟨hw, -⟩ := hw
                          specialize hw c40_9
                          refine J.tableIn 767 dL_law_40 (by rw [c40_9]; decide) (by rw [c40_9]; decide) (by rw [c40_9]; rfl) (by decide) ?_
                          exact (rL_law_767 htr hdd ih hw)
                        · obtain ⟨-, hw⟩ := hw
                          specialize hw c40_9
                          by_cases c40_10 : y40 = (10 : Int32)
                          · obtain ⟨hw, -⟩ := hw
                            specialize hw c40_10
                            refine J.tableIn 854 dL_law_40 (by rw [c40_10]; decide) (by rw [c40_10]; decide) (by rw [c40_10]; rfl) (by decide) ?_
                            exact (rL_law_854 htr hdd ih hw)
                          · obtain ⟨-, hw⟩ := hw
                            specialize hw c40_10
                            by_cases c40_11 : y40 = (11 : Int32)
                            · obtain ⟨hw, -⟩ := hw
                              specialize hw c40_11
                              refine J.tableIn 941 dL_law_40 (by rw [c40_11]; decide) (by rw [c40_11]; decide) (by rw [c40_11]; rfl) (by decide) ?_
                              exact (rL_law_941 htr hdd ih hw)
                            · obtain ⟨-, hw⟩ := hw
                              specialize hw c40_11
                              by_cases c40_12 : y40 = (12 : Int32)
                              · obtain ⟨hw, -⟩ := hw
                                specialize hw c40_12
                                refine J.tableIn 1021 dL_law_40 (by rw [c40_12]; decide) (by rw [c40_12]; decide) (by rw [c40_12]; rfl) (by decide) ?_
                                exact (rL_law_1021 htr hdd ih hw)
                              · obtain ⟨-, hw⟩ := hw
                                specialize hw c40_12
                                by_cases c40_13 : y40 = (13 : Int32)
                                · obtain ⟨hw, -⟩ := hw
                                  specialize hw c40_13
                                  refine J.tableIn 1101 dL_law_40 (by rw [c40_13]; decide) (by rw [c40_13]; decide) (by rw [c40_13]; rfl) (by decide) ?_
                                  exact (rL_law_1101 htr hdd ih hw)
                                · obtain ⟨-, hw⟩ := hw
                                  specialize hw c40_13
                                  by_cases c40_14 : y40 = (14 : Int32)
                                  · obtain ⟨hw, -⟩ := hw
                                    specialize hw c40_14
                                    refine J.tableIn 1169 dL_law_40 (by rw [c40_14]; decide) (by rw [c40_14]; decide) (by rw [c40_14]; rfl) (by decide) ?_
                                    exact (rL_law_1169 htr hdd ih hw)
                                  · obtain ⟨-, hw⟩ := hw
                                    specialize hw c40_14
                                    by_cases c40_15 : y40 = (15 : Int32)
                                    · obtain ⟨hw, -⟩ := hw
                                      specialize hw c40_15
                                      refine J.tableIn 1249 dL_law_40 (by rw [c40_15]; decide) (by rw [c40_15]; decide) (by rw [c40_15]; rfl) (by decide) ?_
                                      exact (rL_law_1249 htr hdd ih hw)
                                    · obtain ⟨-, hw⟩ := hw
                                      specialize hw c40_15
                                      by_cases c40_16 : y40 = (16 : Int32)
                                      · obtain ⟨hw, -⟩ := hw
                                        specialize hw c40_16
                                        refine J.tableIn 1317 dL_law_40 (by rw [c40_16]; decide) (by rw [c40_16]; decide) (by rw [c40_16]; rfl) (by decide) ?_
                                        exact (rL_law_1317 htr hdd ih hw)
                                      · obtain ⟨-, hw⟩ := hw
                                        specialize hw c40_16
                                        by_cases c40_17 : y40 = (17 : Int32)
                                        · obtain ⟨hw, -⟩ := hw
                                          specialize hw c40_17
                                          refine J.tableIn 1385 dL_law_40 (by rw [c40_17]; decide) (by rw [c40_17]; decide) (by rw [c40_17]; rfl) (by decide) ?_
                                          exact (rL_law_1385 htr hdd ih hw)
                                        · obtain ⟨-, hw⟩ := hw
                                          specialize hw c40_17
                                          by_cases c40_18 : y40 = (18 : Int32)
                                          · obtain ⟨hw, -⟩ := hw
                                            specialize hw c40_18
                                            refine J.tableIn 1493 dL_law_40 (by rw [c40_18]; decide) (by rw [c40_18]; decide) (by rw [c40_18]; rfl) (by decide) ?_
                                            exact (rL_law_1493 htr hdd ih hw)
                                          · obtain ⟨-, hw⟩ := hw
                                            specialize hw c40_18
                                            by_cases c40_19 : y40 = (19 : Int32)
                                            · obtain ⟨hw, -⟩ := hw
                                              specialize hw c40_19
                                              refine J.tableIn 1549 dL_law_40 (by rw [c40_19]; decide) (by rw [c40_19]; decide) (by rw [c40_19]; rfl) (by decide) ?_
                                              exact (rL_law_1549 htr hdd ih hw)
                                            · obtain ⟨-, hw⟩ := hw
                                              specialize hw c40_19
                                              by_cases c40_20 : y40 = (20 : Int32)
                                              · obtain ⟨hw, -⟩ := hw
                                                specialize hw c40_20
                                                refine J.tableIn 1590 dL_law_40 (by rw [c40_20]; decide) (by rw [c40_20]; decide) (by rw [c40_20]; rfl) (by decide) ?_
                                                exact (rL_law_1590 htr hdd ih hw)
                                              · obtain ⟨-, hw⟩ := hw
                                                specialize hw c40_20
                                                by_cases c40_21 : y40 = (21 : Int32)
                                                · obtain ⟨hw, -⟩ := hw
                                                  specialize hw c40_21
                                                  refine J.tableIn 1603 dL_law_40 (by rw [c40_21]; decide) (by rw [c40_21]; decide) (by rw [c40_21]; rfl) (by decide) ?_
                                                  exact (rL_law_1603 htr hdd ih hw)
                                                · obtain ⟨-, hw⟩ := hw
                                                  specialize hw c40_21
                                                  by_cases c40_22 : y40 = (22 : Int32)
                                                  · obtain ⟨hw, -⟩ := hw
                                                    specialize hw c40_22
                                                    refine J.tableIn 1616 dL_law_40 (by rw [c40_22]; decide) (by rw [c40_22]; decide) (by rw [c40_22]; rfl) (by decide) ?_
                                                    exact (rL_law_1616 htr hdd ih hw)
                                                  · obtain ⟨-, hw⟩ := hw
                                                    specialize hw c40_22
                                                    by_cases c40_23 : y40 = (23 : Int32)
                                                    · obtain ⟨hw, -⟩ := hw
                                                      specialize hw c40_23
                                                      refine J.tableIn 1672 dL_law_40 (by rw [c40_23]; decide) (by rw [c40_23]; decide) (by rw [c40_23]; rfl) (by decide) ?_
                                                      exact (rL_law_1672 htr hdd ih hw)
                                                    · obtain ⟨-, hw⟩ := hw
                                                      specialize hw c40_23
                                                      by_cases c40_24 : y40 = (24 : Int32)
                                                      · obtain ⟨hw, -⟩ := hw
                                                        specialize hw c40_24
                                                        refine J.tableIn 1728 dL_law_40 (by rw [c40_24]; decide) (by rw [c40_24]; decide) (by rw [c40_24]; rfl) (by decide) ?_
                                                        exact (rL_law_1728 htr hdd ih hw)
                                                      · obtain ⟨-, hw⟩ := hw
                                                        specialize hw c40_24
                                                        by_cases c40_25 : y40 = (25 : Int32)
                                                        · obtain ⟨hw, -⟩ := hw
                                                          specialize hw c40_25
                                                          refine J.tableIn 1741 dL_law_40 (by rw [c40_25]; decide) (by rw [c40_25]; decide) (by rw [c40_25]; rfl) (by decide) ?_
                                                          exact (rL_law_1741 htr hdd ih hw)
                                                        · obtain ⟨-, hw⟩ := hw
                                                          specialize hw c40_25
                                                          by_cases c40_26 : y40 = (26 : Int32)
                                                          · obtain ⟨hw, -⟩ := hw
                                                            specialize hw c40_26
                                                            refine J.tableIn 1785 dL_law_40 (by rw [c40_26]; decide) (by rw [c40_26]; decide) (by rw [c40_26]; rfl) (by decide) ?_
                                                            exact (rL_law_1785 htr hdd ih hw)
                                                          · obtain ⟨-, hw⟩ := hw
                                                            specialize hw c40_26
                                                            by_cases c40_27 : y40 = (27 : Int32)
                                                            · obtain ⟨hw, -⟩ := hw
                                                              specialize hw c40_27
                                                              refine J.tableIn 1881 dL_law_40 (by rw [c40_27]; decide) (by rw [c40_27]; decide) (by rw [c40_27]; rfl) (by decide) ?_
                                                              exact (rL_law_1881 htr hdd ih hw)
                                                            · obtain ⟨-, hw⟩ := hw
                                                              specialize hw c40_27
                                                              by_cases c40_28 : y40 = (28 : Int32)
                                                              · obtain ⟨hw, -⟩ := hw
                                                                specialize hw c40_28
                                                                refine J.tableIn 1949 dL_law_40 (by rw [c40_28]; decide) (by rw [c40_28]; decide) (by rw [c40_28]; rfl) (by decide) ?_
                                                                exact (rL_law_1949 htr hdd ih hw)
                                                              · obtain ⟨-, hw⟩ := hw
                                                                specialize hw c40_28
                                                                by_cases c40_29 : y40 = (29 : Int32)
                                                                · obtain ⟨hw, -⟩ := hw
                                                                  specialize hw c40_29
                                                                  refine J.tableIn 2021 dL_law_40 (by rw [c40_29]; decide) (by rw [c40_29]; decide) (by rw [c40_29]; rfl) (by decide) ?_
                                                                  exact (rL_law_2021 htr hdd ih hw)
                                                                · obtain ⟨-, hw⟩ := hw
                                                                  specialize hw c40_29
                                                                  by_cases c40_30 : y40 = (30 : Int32)
                                                                  · obtain ⟨hw, -⟩ := hw
                                                                    specialize hw c40_30
                                                                    refine J.tableIn 2065 dL_law_40 (by rw [c40_30]; decide) (by rw [c40_30]; decide) (by rw [c40_30]; rfl) (by decide) ?_
                                                                    exact (rL_law_2065 htr hdd ih hw)
                                                                  · obtain ⟨-, hw⟩ := hw
                                                                    specialize hw c40_30
                                                                    by_cases c40_31 : y40 = (31 : Int32)
                                                                    · obtain ⟨hw, -⟩ := hw
                                                                      specialize hw c40_31
                                                                      refine J.tableIn 2137 dL_law_40 (by rw [c40_31]; decide) (by rw [c40_31]; decide) (by rw [c40_31]; rfl) (by decide) ?_
                                                                      exact (rL_law_2137 htr hdd ih hw)
                                                                    · obtain ⟨-, hw⟩ := hw
                                                                      specialize hw c40_31
                                                                      by_cases c40_32 : y40 = (32 : Int32)
                                                                      · obtain ⟨hw, -⟩ := hw
                                                                        specialize hw c40_32
                                                                        refine J.tableIn 2150 dL_law_40 (by rw [c40_32]; decide) (by rw [c40_32]; decide) (by rw [c40_32]; rfl) (by decide) ?_
                                                                        exact (rL_law_2150 htr hdd ih hw)
                                                                      · obtain ⟨-, hw⟩ := hw
                                                                        specialize hw c40_32
                                                                        by_cases c40_33 : y40 = (33 : Int32)
                                                                        · obtain ⟨hw, -⟩ := hw
                                                                          specialize hw c40_33
                                                                          refine J.tableIn 2218 dL_law_40 (by rw [c40_33]; decide) (by rw [c40_33]; decide) (by rw [c40_33]; rfl) (by decide) ?_
                                                                          exact (rL_law_2218 htr hdd ih hw)
                                                                        · obtain ⟨-, hw⟩ := hw
                                                                          specialize hw c40_33
                                                                          by_cases c40_34 : y40 = (34 : Int32)
                                                                          · obtain ⟨hw, -⟩ := hw
                                                                            specialize hw c40_34
                                                                            refine J.tableIn 2274 dL_law_40 (by rw [c40_34]; decide) (by rw [c40_34]; decide) (by rw [c40_34]; rfl) (by decide) ?_
                                                                            exact (rL_law_2274 htr hdd ih hw)
                                                                          · obtain ⟨-, hw⟩ := hw
                                                                            specialize hw c40_34
                                                                            by_cases c40_35 : y40 = (35 : Int32)
                                                                            · obtain ⟨hw, -⟩ := hw
                                                                              specialize hw c40_35
                                                                              refine J.tableIn 2342 dL_law_40 (by rw [c40_35]; decide) (by rw [c40_35]; decide) (by rw [c40_35]; rfl) (by decide) ?_
                                                                              exact (rL_law_2342 htr hdd ih hw)
                                                                            · obtain ⟨-, hw⟩ := hw
                                                                              specialize hw c40_35
                                                                              by_cases c40_36 : y40 = (36 : Int32)
                                                                              · obtain ⟨hw, -⟩ := hw
                                                                                specialize hw c40_36
                                                                                refine J.tableIn 2410 dL_law_40 (by rw [c40_36]; decide) (by rw [c40_36]; decide) (by rw [c40_36]; rfl) (by decide) ?_
                                                                                exact (rL_law_2410 htr hdd ih hw)
                                                                              · obtain ⟨-, hw⟩ := hw
                                                                                specialize hw c40_36
                                                                                by_cases c40_37 : y40 = (37 : Int32)
                                                                                · obtain ⟨hw, -⟩ := hw
                                                                                  specialize hw c40_37
                                                                                  refine J.tableIn 2478 dL_law_40 (by rw [c40_37]; decide) (by rw [c40_37]; decide) (by rw [c40_37]; rfl) (by decide) ?_
                                                                                  exact (rL_law_2478 htr hdd ih hw)
                                                                                · obtain ⟨-, hw⟩ := hw
                                                                                  specialize hw c40_37
                                                                                  by_cases c40_38 : y40 = (38 : Int32)
                                                                                  · obtain ⟨hw, -⟩ := hw
                                                                                    specialize hw c40_38
                                                                                    refine J.tableIn 2546 dL_law_40 (by rw [c40_38]; decide) (by rw [c40_38]; decide) (by rw [c40_38]; rfl) (by decide) ?_
                                                                                    exact (rL_law_2546 htr hdd ih hw)
                                                                                  · obtain ⟨-, hw⟩ := hw
                                                                                    specialize hw c40_38
                                                                                    by_cases c40_39 : y40 = (39 : Int32)
                                                                                    · obtain ⟨hw, -⟩ := hw
                                                                                      specialize hw c40_39
                                                                                      refine J.tableIn 2559 dL_law_40 (by rw [c40_39]; decide) (by rw [c40_39]; decide) (by rw [c40_39]; rfl) (by decide) ?_
                                                                                      exact (rL_law_2559 htr hdd ih hw)
                                                                                    · obtain ⟨-, hw⟩ := hw
                                                                                      specialize hw c40_39
                                                                                      by_cases c40_40 : y40 = (40 : Int32)
                                                                                      · obtain ⟨hw, -⟩ := hw
                                                                                        specialize hw c40_40
                                                                                        refine J.tableIn 2572 dL_law_40 (by rw [c40_40]; decide) (by rw [c40_40]; decide) (by rw [c40_40]; rfl) (by decide) ?_
                                                                                        exact (rL_law_2572 htr hdd ih hw)
                                                                                      · obtain ⟨-, hw⟩ := hw
                                                                                        specialize hw c40_40
                                                                                        by_cases c40_41 : y40 = (41 : Int32)
                                                                                        · obtain ⟨hw, -⟩ := hw
                                                                                          specialize hw c40_41
                                                                                          refine J.tableIn 2585 dL_law_40 (by rw [c40_41]; decide) (by rw [c40_41]; decide) (by rw [c40_41]; rfl) (by decide) ?_
                                                                                          exact (rL_law_2585 htr hdd ih hw)
                                                                                        · obtain ⟨-, hw⟩ := hw
                                                                                          specialize hw c40_41
                                                                                          by_cases c40_42 : y40 = (42 : Int32)
                                                                                          · obtain ⟨hw, -⟩ := hw
                                                                                            specialize hw c40_42
                                                                                            refine J.tableIn 2641 dL_law_40 (by rw [c40_42]; decide) (by rw [c40_42]; decide) (by rw [c40_42]; rfl) (by decide) ?_
                                                                                            exact (rL_law_2641 htr hdd ih hw)
                                                                                          · obtain ⟨-, hw⟩ := hw
                                                                                            specialize hw c40_42
                                                                                            by_cases c40_43 : y40 = (43 : Int32)
                                                                                            · obtain ⟨hw, -⟩ := hw
                                                                                              specialize hw c40_43
                                                                                              refine J.tableIn 2697 dL_law_40 (by rw [c40_43]; decide) (by rw [c40_43]; decide) (by rw [c40_43]; rfl) (by decide) ?_
                                                                                              exact (rL_law_2697 htr hdd ih hw)
                                                                                            · obtain ⟨-, hw⟩ := hw
                                                                                              specialize hw c40_43
                                                                                              by_cases c40_44 : y40 = (44 : Int32)
                                                                                              · obtain ⟨hw, -⟩ := hw
                                                                                                specialize hw c40_44
                                                                                                refine J.tableIn 2777 dL_law_40 (by rw [c40_44]; decide) (by rw [c40_44]; decide) (by rw [c40_44]; rfl) (by decide) ?_
                                                                                                exact (rL_law_2777 htr hdd ih hw)
                                                                                              · obtain ⟨-, hw⟩ := hw
                                                                                                specialize hw c40_44
                                                                                                by_cases c40_45 : y40 = (45 : Int32)
                                                                                                · obtain ⟨hw, -⟩ := hw
                                                                                                  specialize hw c40_45
                                                                                                  refine J.tableIn 2861 dL_law_40 (by rw [c40_45]; decide) (by rw [c40_45]; decide) (by rw [c40_45]; rfl) (by decide) ?_
                                                                                                  exact (rL_law_2861 htr hdd ih hw)
                                                                                                · obtain ⟨-, hw⟩ := hw
                                                                                                  specialize hw c40_45
                                                                                                  by_cases c40_46 : y40 = (46 : Int32)
                                                                                                  · obtain ⟨hw, -⟩ := hw
                                                                                                    specialize hw c40_46
                                                                                                    refine J.tableIn 2945 dL_law_40 (by rw [c40_46]; decide) (by rw [c40_46]; decide) (by rw [c40_46]; rfl) (by decide) ?_
                                                                                                    exact (rL_law_2945 htr hdd ih hw)
                                                                                                  · obtain ⟨-, hw⟩ := hw
                                                                                                    specialize hw c40_46
                                                                                                    by_cases c40_47 : y40 = (47 : Int32)
                                                                                                    · obtain ⟨hw, -⟩ := hw
                                                                                                      specialize hw c40_47
                                                                                                      refine J.tableIn 3029 dL_law_40 (by rw [c40_47]; decide) (by rw [c40_47]; decide) (by rw [c40_47]; rfl) (by decide) ?_
                                                                                                      exact (rL_law_3029 htr hdd ih hw)
                                                                                                    · obtain ⟨-, hw⟩ := hw
                                                                                                      specialize hw c40_47
                                                                                                      by_cases c40_48 : y40 = (48 : Int32)
                                                                                                      · obtain ⟨hw, -⟩ := hw
                                                                                                        specialize hw c40_48
                                                                                                        refine J.tableIn 3097 dL_law_40 (by rw [c40_48]; decide) (by rw [c40_48]; decide) (by rw [c40_48]; rfl) (by decide) ?_
                                                                                                        exact (rL_law_3097 htr hdd ih hw)
                                                                                                      · obtain ⟨-, hw⟩ := hw
                                                                                                        specialize hw c40_48
                                                                                                        by_cases c40_49 : y40 = (49 : Int32)
                                                                                                        · obtain ⟨hw, -⟩ := hw
                                                                                                          specialize hw c40_49
                                                                                                          refine J.tableIn 3122 dL_law_40 (by rw [c40_49]; decide) (by rw [c40_49]; decide) (by rw [c40_49]; rfl) (by decide) ?_
                                                                                                          exact (rL_law_3122 htr hdd ih hw)
                                                                                                        · obtain ⟨-, hw⟩ := hw
                                                                                                          specialize hw c40_49
                                                                                                          by_cases c40_50 : y40 = (50 : Int32)
                                                                                                          · obtain ⟨hw, -⟩ := hw
                                                                                                            specialize hw c40_50
                                                                                                            refine J.tableIn 3135 dL_law_40 (by rw [c40_50]; decide) (by rw [c40_50]; decide) (by rw [c40_50]; rfl) (by decide) ?_
                                                                                                            exact (rL_law_3135 htr hdd ih hw)
                                                                                                          · obtain ⟨-, hw⟩ := hw
                                                                                                            specialize hw c40_50
                                                                                                            by_cases c40_51 : y40 = (51 : Int32)
                                                                                                            · obtain ⟨hw, -⟩ := hw
                                                                                                              specialize hw c40_51
                                                                                                              refine J.tableIn 3146 dL_law_40 (by rw [c40_51]; decide) (by rw [c40_51]; decide) (by rw [c40_51]; rfl) (by decide) ?_
                                                                                                              exact (rL_law_3146 htr hdd ih hw)
                                                                                                            · obtain ⟨-, hw⟩ := hw
                                                                                                              specialize hw c40_51
                                                                                                              by_cases c40_52 : y40 = (52 : Int32)
                                                                                                              · obtain ⟨hw, -⟩ := hw
                                                                                                                specialize hw c40_52
                                                                                                                refine J.tableIn 3159 dL_law_40 (by rw [c40_52]; decide) (by rw [c40_52]; decide) (by rw [c40_52]; rfl) (by decide) ?_
                                                                                                                exact (rL_law_3159 htr hdd ih hw)
                                                                                                              · obtain ⟨-, hw⟩ := hw
                                                                                                                specialize hw c40_52
                                                                                                                refine J.tableOut 3184 dL_law_40 (jswL (vs := [(0 : Int32), (1 : Int32), (2 : Int32), (3 : Int32), (4 : Int32), (5 : Int32), (6 : Int32), (7 : Int32), (8 : Int32), (9 : Int32), (10 : Int32), (11 : Int32), (12 : Int32), (13 : Int32), (14 : Int32), (15 : Int32), (16 : Int32), (17 : Int32), (18 : Int32), (19 : Int32), (20 : Int32), (21 : Int32), (22 : Int32), (23 : Int32), (24 : Int32), (25 : Int32), (26 : Int32), (27 : Int32), (28 : Int32), (29 : Int32), (30 : Int32), (31 : Int32), (32 : Int32), (33 : Int32), (34 : Int32), (35 : Int32), (36 : Int32), (37 : Int32), (38 : Int32), (39 : Int32), (40 : Int32), (41 : Int32), (42 : Int32), (43 : Int32), (44 : Int32), (45 : Int32), (46 : Int32), (47 : Int32), (48 : Int32), (49 : Int32), (50 : Int32), (51 : Int32), (52 : Int32)]) ⟨c40_0, c40_1, c40_2, c40_3, c40_4, c40_5, c40_6, c40_7, c40_8, c40_9, c40_10, c40_11, c40_12, c40_13, c40_14, c40_15, c40_16, c40_17, c40_18, c40_19, c40_20, c40_21, c40_22, c40_23, c40_24, c40_25, c40_26, c40_27, c40_28, c40_29, c40_30, c40_31, c40_32, c40_33, c40_34, c40_35, c40_36, c40_37, c40_38, c40_39, c40_40, c40_41, c40_42, c40_43, c40_44, c40_45, c40_46, c40_47, c40_48, c40_49, c40_50, c40_51, c40_52, trivial⟩ (by decide)) (by decide) ?_
                                                                                                                refine J.iincN 4 (K := (6 : Int32)) (lv' := fun y3184 => [(4, .int y3184), (0, .ref 69), (1, .ref x1), (2, .ref x2), (3, .ref x3)]) dL_law_3184 rfl (by decide) (by decide) (fun _ => rfl) hw ?_
                                                                                                                clear hw
                                                                                                                intro y3184 hw
                                                                                                                refine J.goto 23 dL_law_3187 (by decide) ?_
                                                                                                                exact J.pick [1, 2, 3, 4, 0] rfl (ih _ _ _ _ _ _ _ _ _ hw)
def wL_law (G : jG) (sh : List jH) (V : Nat → Nat → Int32) (R : Nat → Nat → Option Nat) (c : Nat) (n : Nat) (Q : Int32 → List jH → (Nat → Nat → Int32) → (Nat → Nat → Option Nat) → Prop) : Prop :=
  (∃ c0 n0, c = c0 + 1 ∧ n = n0 + 16 ∧ (∀ q0, q0 = sh.length → (∀ sh0 : List jH, sh0 = sh ++ [jF (.inr (0, [.null, .null, .null, .int 0, .null, .null, .int 0, .null, .null, .null, .null, .null, .null, .null, .null, .null]))] → (∃ c14 n14 c24 n24 : Nat, c14 + c24 ≤ c0 ∧ n14 + n24 ≤ n0 ∧ wX1_init (mk sh0 V R) c14 n14 q0 (fun g4 => (∃ (sh4 : List jH) (V4 : Nat → Nat → Int32) (R4 : Nat → Nat → Option Nat), g4 = mk sh4 V4 R4 ∧ (∃ c8 n8, c24 = c8 + 1 ∧ n24 = n8 + 28 ∧ (∀ q8, q8 = sh4.length → (∀ sh8 : List jH, sh8 = sh4 ++ [jF (.inr (5, [.int 0, .null, .null, .int 0, .null, .null, .int 0, .null, .int 0, .int 0, .int 0, .int 0, .int 0, .int 0, .null, .int 0, .int 0, .int 0, .int 0, .int 0, .int 0, .null, .null, .null, .null, .null, .null, .null]))] → (∃ c112 n112 c212 n212 : Nat, c112 + c212 ≤ c8 ∧ n112 + n212 ≤ n8 ∧ wX6_init (mk sh8 V4 R4) c112 n112 q8 (fun g12 => (∃ (sh12 : List jH) (V12 : Nat → Nat → Int32) (R12 : Nat → Nat → Option Nat), g12 = mk sh12 V12 R12 ∧ (∃ c17 n17, c212 = c17 + 1 ∧ n212 = n17 + 1 ∧ (∀ q17, q17 = sh12.length → (∀ sh17 : List jH, sh17 = sh12 ++ [jF (.inl (3, 1, .inr (.inl (fun _ => 0))))] → (∃ f9, wL_law_23 G Q f9 sh17 V12 R12 c17 n17 q0 q8 q17 (0 : Int32)))))))))))))))))
theorem bL_law {G : jG} {l : Launch} {d : Nat} (htr : l.stackTraces = false) (hdd : 107 ≤ d) {sh : List jH} {V : Nat → Nat → Int32} {R : Nat → Nat → Option Nat} {c : Nat} {n : Nat} {Q : Int32 → List jH → (Nat → Nat → Int32) → (Nat → Nat → Option Nat) → Prop} (hw : wL_law G sh V R c n Q) : J G l ML_law d c n 0 [(0, .ref 69)] [] (mk sh V R) (jSr Q) jNo := by
  unfold wL_law at hw
  obtain ⟨c0, n0, rfl, rfl, hw⟩ := hw
  refine J.new (C := RX1) (T0 := TX1) (N := 16) [.null, .null, .null, .int 0, .null, .null, .int 0, .null, .null, .null, .null, .null, .null, .null, .null, .null] dL_law_0 (ci := 0) rfl in_X1 tyX1 tyX1_ok q187 q188 q144 rfl (fun _ => rfl) ?_
  rw [mk_len]
  refine J.nmr hw ?_
  clear hw
  intro q0 hw
  rw [mk_pushF]
  refine J.nmsE (fun sh0 e0 => ?_)
  specialize hw sh0 e0
  refine J.dup dL_law_3 rfl ?_
  obtain ⟨c14, n14, c24, n24, hc4, hd4, hw⟩ := hw
  refine niL_139 rfl htr dL_law_4 (by omega) (Nat.le_of_ble_eq_true rfl) hw ⟨hc4, hd4⟩ ?_
  clear hw
  intro g4 hw
  obtain ⟨sh4, V4, R4, rfl, hw⟩ := hw
  refine J.astore_n (lv' := [(1, .ref q0), (0, .ref 69)]) dL_law_7 (by decide) rfl ?_
  obtain ⟨c8, n8, rfl, rfl, hw⟩ := hw
  refine J.new (C := RX6) (T0 := TX6) (N := 28) [.int 0, .null, .null, .int 0, .null, .null, .int 0, .null, .int 0, .int 0, .int 0, .int 0, .int 0, .int 0, .null, .int 0, .int 0, .int 0, .int 0, .int 0, .int 0, .null, .null, .null, .null, .null, .null, .null] dL_law_8 (ci := 5) rfl in_X6 tyX6 tyX6_ok q2122 q2123 q152 rfl (fun _ => rfl) ?_
  rw [mk_len]
  refine J.nmr hw ?_
  clear hw
  intro q8 hw
  rw [mk_pushF]
  refine J.nmsE (fun sh8 e8 => ?_)
  specialize hw sh8 e8
  refine J.dup dL_law_11 rfl ?_
  obtain ⟨c112, n112, c212, n212, hc12, hd12, hw⟩ := hw
  refine niL_142 rfl htr dL_law_12 (by omega) (Nat.le_of_ble_eq_true rfl) hw ⟨hc12, hd12⟩ ?_
  clear hw
  intro g12 hw
  obtain ⟨sh12, V12, R12, rfl, hw⟩ := hw
  refine J.astore_n (lv' := [(2, .ref q8), (1, .ref q0), (0, .ref 69)]) dL_law_15 (by decide) rfl ?_
  refine J.iconst (v := (1 : Int32)) dL_law_16 (by decide) ?_
  obtain ⟨c17, n17, rfl, rfl, hw⟩ := hw
  refine J.newaL 1 dL_law_17 (by decide) (by decide) (by decide) ?_
  rw [mk_len]
  refine J.nmr hw ?_
  clear hw
  intro q17 hw
  rw [mk_pushF]
  refine J.nmsE (fun sh17 e17 => ?_)
  specialize hw sh17 e17
  refine J.astore_n (lv' := [(3, .ref q17), (2, .ref q8), (1, .ref q0), (0, .ref 69)]) dL_law_19 (by decide) rfl ?_
  refine J.iconst (v := (0 : Int32)) dL_law_20 (by decide) ?_
  refine J.istore (lv' := [(4, .int (0 : Int32)), (3, .ref q17), (2, .ref q8), (1, .ref q0), (0, .ref 69)]) dL_law_21 (by decide) rfl ?_
  obtain ⟨f9, hw⟩ := hw
  exact J.pick [4, 3, 2, 1, 0] rfl (rL_law_23 htr hdd f9 _ _ _ _ _ _ _ _ _ hw)
