abbrev MX1_feed : jM := (yX1_feed, cX1_feed, 6, some .int, [])
theorem uX1_74 {G : jG} {l : Launch} {M : jM} {d c n pc : Nat} {lv : List (Nat × Value)} {rest : List Value} {post : Option Value → List jC → Prop} {xp : String → List jC → Prop} (hM : M.1.cls = RX1) (htr : l.stackTraces = false) {sh : List jH} {V : Nat → Nat → Int32} {R : Nat → Nat → Option Nat} {r : Nat} (hT : jReg shX3 sh r) {p1 : Nat} (hs1 : sh[p1]? = some (.inr (.inl (0, 5)))) (hg1 : jn ≤ p1) {Q : Int32 → (Nat → Nat → Int32) → Prop} (hd : decode M.2.1 pc = .ok (.invokevirtual 74, 3)) (hdd : 0 + 1 ≤ d) (hw8 : (rest.map fun v => v.category).sum ≤ 8) (hw : wX3_add r p1 V Q) (kk : ∀ r V', Q r V' → J G l M d c n (pc + 3) lv (.int r :: rest) (mk sh V' R) post xp) : J G l M d c n pc lv (.ref p1 :: .ref r :: rest) (mk sh V R) post xp := by
  exact J.callV (As := [.ref p1]) (hcw := by rw [hM]; exact lw_V q486 q487 q488 q146 q489) (mX3_add htr hT hs1 hg1 hw) hd rfl ⟨2, _, _, mk_at (hT.at 0 rfl), rfl, rfl, fun _ => rfl⟩ ⟨rfl, by decide, by decide, by show _ = some 1; decide +kernel⟩ hw8 ⟨hdd, by decide⟩ jcc0 (fun r9 g9 h9 => by obtain ⟨V9, rfl, r, rfl, h⟩ := h9; exact kk r V9 h) jNo.x
-- VisitingHours.feed(IIIII)I
def wX1_feed (x : Nat) (sh : List jH) (V : Nat → Nat → Int32) (R : Nat → Nat → Option Nat) (c : Nat) (n : Nat) (a1 : Int32) (a2 : Int32) (a3 : Int32) (a4 : Int32) (a5 : Int32) (Q : Int32 → List jH → (Nat → Nat → Int32) → (Nat → Nat → Option Nat) → Prop) : Prop :=
  (∃ c5 n5, c = c5 + 1 ∧ n = n5 + 5 ∧ (∀ q5, q5 = sh.length → (∀ (sh5 : List jH) (V5 : Nat → Nat → Int32), sh5 = sh ++ [.inr (.inl (0, 5))] → V5 = vrow V sh.length (fun _ => 0) → (sh5[q5]? = some (.inr (.inl (0, 5))) ∧ jn ≤ q5 ∧ (wX3_add (x + 109) q5 (vset (vset (vset (vset (vset V5 q5 0 a1) q5 1 a2) q5 2 a3) q5 3 a4) q5 4 a5) (fun r29 V29 => Q r29 sh5 V29 R))))))
theorem mX1_feed {G : jG} {l : Launch} {d : Nat} (htr : l.stackTraces = false) (hdd : 1 ≤ d) {sh : List jH} {V : Nat → Nat → Int32} {R : Nat → Nat → Option Nat} {c : Nat} {n : Nat} {x : Nat} (hT : jReg shX1 sh x) {a1 : Int32} {a2 : Int32} {a3 : Int32} {a4 : Int32} {a5 : Int32} {Q : Int32 → List jH → (Nat → Nat → Int32) → (Nat → Nat → Option Nat) → Prop} (hw : wX1_feed x sh V R c n a1 a2 a3 a4 a5 Q) : JM G l MX1_feed d c n [.ref x, .int a1, .int a2, .int a3, .int a4, .int a5] (mk sh V R) (jSr Q) jNo := by
  refine JM.intro (by decide) rfl htr (Nat.le_of_ble_eq_true rfl) ?_
  show J G l MX1_feed d c n 0 [(0, .ref x), (1, .int a1), (2, .int a2), (3, .int a3), (4, .int a4), (5, .int a5)] [] (mk sh V R) _ _
  unfold wX1_feed at hw
  refine J.aload_n 0 dX1_feed_0 rfl ?_
  refine fgX1_25 rfl hT dX1_feed_1 ?_
  refine J.iconst (v := (5 : Int32)) dX1_feed_4 (by decide) ?_
  obtain ⟨c5, n5, rfl, rfl, hw⟩ := hw
  refine J.newaI 5 dX1_feed_5 (by decide) (by decide) (by decide) ?_
  rw [mk_len]
  refine J.nmr hw ?_
  clear hw
  intro q5 hw
  rw [mk_pushI]
  refine J.nmsV (fun sh5 V5 e5 e25 => ?_)
  specialize hw sh5 V5 e5 e25
  obtain ⟨hs5, hg5, hw⟩ := hw
  replace hT := jReg.apE hT e5
  refine J.dup dX1_feed_7 rfl ?_
  refine J.iconst (v := (0 : Int32)) dX1_feed_8 (by decide) ?_
  refine J.iload_n 1 dX1_feed_9 rfl ?_
  refine JV.iastK 0 dX1_feed_10 hg5 hs5 rfl (by decide) (by decide) ?_
  refine J.dup dX1_feed_11 rfl ?_
  refine J.iconst (v := (1 : Int32)) dX1_feed_12 (by decide) ?_
  refine J.iload_n 2 dX1_feed_13 rfl ?_
  refine JV.iastK 1 dX1_feed_14 hg5 hs5 rfl (by decide) (by decide) ?_
  refine J.dup dX1_feed_15 rfl ?_
  refine J.iconst (v := (2 : Int32)) dX1_feed_16 (by decide) ?_
  refine J.iload_n 3 dX1_feed_17 rfl ?_
  refine JV.iastK 2 dX1_feed_18 hg5 hs5 rfl (by decide) (by decide) ?_
  refine J.dup dX1_feed_19 rfl ?_
  refine J.iconst (v := (3 : Int32)) dX1_feed_20 (by decide) ?_
  refine J.iload 4 dX1_feed_21 rfl ?_
  refine JV.iastK 3 dX1_feed_23 hg5 hs5 rfl (by decide) (by decide) ?_
  refine J.dup dX1_feed_24 rfl ?_
  refine J.iconst (v := (4 : Int32)) dX1_feed_25 (by decide) ?_
  refine J.iload 5 dX1_feed_26 rfl ?_
  refine JV.iastK 4 dX1_feed_28 hg5 hs5 rfl (by decide) (by decide) ?_
  refine uX1_74 rfl htr (hT.sub 109 2 rfl) hs5 hg5 dX1_feed_29 (by omega) (Nat.le_of_ble_eq_true rfl) hw ?_
  clear hw
  intro r29 V29 hw
  exact J.iret rfl dX1_feed_32 ⟨_, _, _, rfl, _, rfl, hw⟩
theorem nrX1_428 {G : jG} {l : Launch} {M : jM} {d c n pc : Nat} {lv : List (Nat × Value)} {rest : List Value} {g : List jC} {post : Option Value → List jC → Prop} {xp : String → List jC → Prop} (hM : M.1.cls = RX1) (htr : l.stackTraces = false) {h : Nat} {a1 : Nat} {fs9 : List Value} (hk9 : g[h]? = some (.inr (7, fs9))) {Q : Int32 → Prop} (hd : decode M.2.1 pc = .ok (.invokevirtual 428, 3)) (hdd : 40 + 1 ≤ d) (hw8 : (rest.map fun v => v.category).sum ≤ 8) (hw : wX8_admits g h a1 Q) (kk : ∀ r, Q r → J G l M d c n (pc + 3) lv (.int r :: rest) g post xp) : J G l M d c n pc lv (.ref a1 :: .ref h :: rest) g post xp :=
  J.callV (As := [.ref a1]) (hcw := by rw [hM]; exact lw_V q533 q534 q535 q171 q536) (mX8_admits htr (Nat.le_refl _) hw) hd rfl ⟨7, _, _, hk9, rfl, rfl, fun _ => rfl⟩ ⟨rfl, by decide, by decide, by show _ = some 1; decide +kernel⟩ hw8 ⟨hdd, by decide⟩ jcc0 (fun r9 g9 h9 => by obtain ⟨rfl, r, rfl, h⟩ := h9; exact kk r h) jNo.x
abbrev MX1_letsIn : jM := (yX1_letsIn, cX1_letsIn, 5, some .boolean, [])
theorem uX1_409 {G : jG} {l : Launch} {M : jM} {d c n pc : Nat} {lv : List (Nat × Value)} {rest : List Value} {post : Option Value → List jC → Prop} {xp : String → List jC → Prop} (hM : M.1.cls = RX1) (htr : l.stackTraces = false) {sh : List jH} {V : Nat → Nat → Int32} {R : Nat → Nat → Option Nat} {w : Nat} (hT : jReg shX2 sh w) {a1 : Int32} {Q : Int32 → Prop} (hd : decode M.2.1 pc = .ok (.invokevirtual 409, 3)) (hdd : 0 + 1 ≤ d) (hw8 : (rest.map fun v => v.category).sum ≤ 8) (hw : wX2_isMarked w V a1 Q) (kk : ∀ r, Q r → J G l M d c n (pc + 3) lv (.int r :: rest) (mk sh V R) post xp) : J G l M d c n pc lv (.int a1 :: .ref w :: rest) (mk sh V R) post xp := by
  exact J.callV (As := [.int a1]) (hcw := by rw [hM]; exact lw_V q525 q526 q527 q145 q528) (mX2_isMarked htr hT hw) hd rfl ⟨1, _, _, mk_at (hT.at 0 rfl), rfl, rfl, fun _ => rfl⟩ ⟨rfl, by decide, by decide, by show _ = some 1; decide +kernel⟩ hw8 ⟨hdd, by decide⟩ jcc0 (fun r9 g9 h9 => by obtain ⟨rfl, r, rfl, h⟩ := h9; exact kk r h) jNo.x
theorem uX1_420 {G : jG} {l : Launch} {M : jM} {d c n pc : Nat} {lv : List (Nat × Value)} {rest : List Value} {post : Option Value → List jC → Prop} {xp : String → List jC → Prop} (hM : M.1.cls = RX1) (htr : l.stackTraces = false) {sh : List jH} {V : Nat → Nat → Int32} {R : Nat → Nat → Option Nat} {x : Nat} (hT : jReg shX1 sh x) {w1 : Nat} (hW1 : jReg shX2 sh w1) {a2 : Int32} {a3 : Int32} {a4 : Int32} {Q : (Nat → Nat → Int32) → Prop} (hd : decode M.2.1 pc = .ok (.invokevirtual 420, 3)) (hdd : 1 + 1 ≤ d) (hw8 : (rest.map fun v => v.category).sum ≤ 8) (hw : wX1_sceneOf x w1 V a2 a3 a4 Q) (kk : ∀ V', Q V' → J G l M d c n (pc + 3) lv (.ref (x + 111) :: rest) (mk sh V' R) post xp) : J G l M d c n pc lv (.int a4 :: .int a3 :: .int a2 :: .ref w1 :: .ref x :: rest) (mk sh V R) post xp := by
  exact J.callV (As := [.ref w1, .int a2, .int a3, .int a4]) (hcw := by rw [hM]; exact lw_V q529 q531 qs2 q144 q532) (mX1_sceneOf htr hT hW1 hw) hd rfl ⟨0, _, _, mk_at (hT.at 0 rfl), rfl, rfl, fun _ => rfl⟩ ⟨rfl, by decide, by decide, by show _ = some 4; decide +kernel⟩ hw8 ⟨hdd, by decide⟩ jcc0 (fun r9 g9 h9 => by obtain ⟨V9, rfl, rfl, h⟩ := h9; exact kk V9 h) jNo.x
-- VisitingHours.letsIn(LVisitingHours$World;III)Z
def wX1_letsIn (x : Nat) (w1 : Nat) (sh : List jH) (R : Nat → Nat → Option Nat) (V : Nat → Nat → Int32) (a2 : Int32) (a3 : Int32) (a4 : Int32) (Q : Int32 → (Nat → Nat → Int32) → Prop) : Prop :=
  (∀ o1 : Option Nat, o1 = (R w1 20) → ((o1 = none → (wX2_isMarked w1 V a3 (fun r9 => (jz r9 ∧ Q r9 V)))) ∧ (∀ b4_1, o1 = some b4_1 → (∀ o16 : Option Nat, o16 = (R w1 20) → (wX1_sceneOf x w1 V a2 a3 a4 (fun V25 => (∃ b28_2, o16 = some b28_2 ∧ (∃ fs28 : List Value, (mk sh V25 R)[b28_2]? = some (.inr (7, fs28)) ∧ wX8_admits (mk sh V25 R) b28_2 (x + 111) (fun r28 => (jz r28 ∧ Q r28 V25))))))))))
theorem mX1_letsIn {G : jG} {l : Launch} {d : Nat} (htr : l.stackTraces = false) (hdd : 41 ≤ d) {sh : List jH} {R : Nat → Nat → Option Nat} {V : Nat → Nat → Int32} {x : Nat} {w1 : Nat} (hT : jReg shX1 sh x) (hW1 : jReg shX2 sh w1) {a2 : Int32} {a3 : Int32} {a4 : Int32} {Q : Int32 → (Nat → Nat → Int32) → Prop} (hw : wX1_letsIn x w1 sh R V a2 a3 a4 Q) : JM G l MX1_letsIn d 0 0 [.ref x, .ref w1, .int a2, .int a3, .int a4] (mk sh V R) (jWr sh R Q) jNo := by
  refine JM.intro (by decide) rfl htr (Nat.le_of_ble_eq_true rfl) ?_
  show J G l MX1_letsIn d 0 0 0 [(0, .ref x), (1, .ref w1), (2, .int a2), (3, .int a3), (4, .int a4)] [] (mk sh V R) _ _
  unfold wX1_letsIn at hw
  refine J.aload_n 1 dX1_letsIn_0 rfl ?_
  refine fgX1_389 rfl hW1 dX1_letsIn_1 ?_
  refine J.nmq hw ?_
  clear hw
  intro o1 hw
  refine J.ifnonnullQ 15 dX1_letsIn_4 (by decide) (fun b4_1 e9 => ?_) (fun e9 => ?_)
  · subst e9
    obtain ⟨-, hw⟩ := hw
    specialize hw _ rfl
    refine J.aload_n 1 dX1_letsIn_15 rfl ?_
    refine fgX1_389 rfl hW1 dX1_letsIn_16 ?_
    refine J.nmq hw ?_
    clear hw
    intro o16 hw
    refine J.aload_n 0 dX1_letsIn_19 rfl ?_
    refine J.aload_n 1 dX1_letsIn_20 rfl ?_
    refine J.iload_n 2 dX1_letsIn_21 rfl ?_
    refine J.iload_n 3 dX1_letsIn_22 rfl ?_
    refine J.iload 4 dX1_letsIn_23 rfl ?_
    refine uX1_420 rfl htr hT hW1 dX1_letsIn_25 (by omega) (by cases o16 <;> exact Nat.le_of_ble_eq_true rfl) hw ?_
    clear hw
    intro V25 hw
    obtain ⟨b28_2, rfl, hw⟩ := hw
    obtain ⟨fs28, hk28, hw⟩ := hw
    refine nrX1_428 rfl htr hk28 dX1_letsIn_28 (by omega) (Nat.le_of_ble_eq_true rfl) hw ?_
    clear hw
    intro r28 hw
    exact J.zret rfl (jz_nar hw.1) dX1_letsIn_31 ⟨_, rfl, _, rfl, hw.2⟩
  · subst e9
    obtain ⟨hw, -⟩ := hw
    specialize hw rfl
    refine J.aload_n 1 dX1_letsIn_7 rfl ?_
    refine J.iload_n 3 dX1_letsIn_8 rfl ?_
    refine uX1_409 rfl htr hW1 dX1_letsIn_9 (by omega) (Nat.le_of_ble_eq_true rfl) hw ?_
    clear hw
    intro r9 hw
    refine J.goto 31 dX1_letsIn_12 (by decide) ?_
    exact J.zret rfl (jz_nar hw.1) dX1_letsIn_31 ⟨_, rfl, _, rfl, hw.2⟩
theorem fgX1_415 {G : jG} {l : Launch} {M : jM} {d c n pc : Nat} {lv : List (Nat × Value)} {st : List Value} {sh : List jH} {V : Nat → Nat → Int32} {R : Nat → Nat → Option Nat} {post : Option Value → List jC → Prop} {xp : String → List jC → Prop} {w : Nat} (hM : M.1.cls = RX1) (hT : jReg shX2 sh w) (hd : decode M.2.1 pc = .ok (.getfield 415, 3)) (kk : J G l M d c n (pc + 3) lv (.ref (w + 26) :: st) (mk sh V R) post xp) : J G l M d c n pc lv (.ref w :: st) (mk sh V R) post xp := JV.getfN (C := RX2) (T0 := TX2) (N := 22) 18 hd hT.1 (hT.at 0 rfl) rfl in_X2 (by decide) (by rw [hM]; exact nw244) rfl rfl kk
abbrev MX1_wouldMeet : jM := (yX1_wouldMeet, cX1_wouldMeet, 5, some .boolean, [])
theorem uX1_432 {G : jG} {l : Launch} {M : jM} {d c n pc : Nat} {lv : List (Nat × Value)} {rest : List Value} {post : Option Value → List jC → Prop} {xp : String → List jC → Prop} (hM : M.1.cls = RX1) (htr : l.stackTraces = false) {sh : List jH} {V : Nat → Nat → Int32} {R : Nat → Nat → Option Nat} {w : Nat} (hT : jReg shX2 sh w) {a1 : Int32} {a2 : Int32} {a3 : Int32} {Q : Int32 → Prop} (hd : decode M.2.1 pc = .ok (.invokevirtual 432, 3)) (hdd : 1 + 1 ≤ d) (hw8 : (rest.map fun v => v.category).sum ≤ 8) (hw : wX2_can w V a1 a2 a3 Q) (kk : ∀ r, Q r → J G l M d c n (pc + 3) lv (.int r :: rest) (mk sh V R) post xp) : J G l M d c n pc lv (.int a3 :: .int a2 :: .int a1 :: .ref w :: rest) (mk sh V R) post xp := by
  exact J.callV (As := [.int a1, .int a2, .int a3]) (hcw := by rw [hM]; exact lw_V q510 q511 q512 q145 q513) (mX2_can htr hT hw) hd rfl ⟨1, _, _, mk_at (hT.at 0 rfl), rfl, rfl, fun _ => rfl⟩ ⟨rfl, by decide, by decide, by show _ = some 3; decide +kernel⟩ hw8 ⟨hdd, by decide⟩ jcc0 (fun r9 g9 h9 => by obtain ⟨rfl, r, rfl, h⟩ := h9; exact kk r h) jNo.x
theorem uX1_435 {G : jG} {l : Launch} {M : jM} {d c n pc : Nat} {lv : List (Nat × Value)} {rest : List Value} {post : Option Value → List jC → Prop} {xp : String → List jC → Prop} (hM : M.1.cls = RX1) (htr : l.stackTraces = false) {sh : List jH} {V : Nat → Nat → Int32} {R : Nat → Nat → Option Nat} {x : Nat} {w1 : Nat} (hT : jReg shX1 sh x) (hW1 : jReg shX2 sh w1) {a2 : Int32} {a3 : Int32} {a4 : Int32} {Q : Int32 → (Nat → Nat → Int32) → Prop} (hd : decode M.2.1 pc = .ok (.invokevirtual 435, 3)) (hdd : 41 + 1 ≤ d) (hw8 : (rest.map fun v => v.category).sum ≤ 8) (hw : wX1_letsIn x w1 sh R V a2 a3 a4 Q) (kk : ∀ r V', Q r V' → J G l M d c n (pc + 3) lv (.int r :: rest) (mk sh V' R) post xp) : J G l M d c n pc lv (.int a4 :: .int a3 :: .int a2 :: .ref w1 :: .ref x :: rest) (mk sh V R) post xp := by
  exact J.callV (As := [.ref w1, .int a2, .int a3, .int a4]) (hcw := by rw [hM]; exact lw_V q521 q523 qs1 q144 q524) (mX1_letsIn htr (Nat.le_refl _) hT hW1 hw) hd rfl ⟨0, _, _, mk_at (hT.at 0 rfl), rfl, rfl, fun _ => rfl⟩ ⟨rfl, by decide, by decide, by show _ = some 4; decide +kernel⟩ hw8 ⟨hdd, by decide⟩ jcc0 (fun r9 g9 h9 => by obtain ⟨V9, rfl, r, rfl, h⟩ := h9; exact kk r V9 h) jNo.x
-- VisitingHours.wouldMeet(LVisitingHours$World;II)Z
def wX1_wouldMeet (x : Nat) (w1 : Nat) (sh : List jH) (R : Nat → Nat → Option Nat) (V : Nat → Nat → Int32) (a2 : Int32) (a3 : Int32) (Q : Int32 → (Nat → Nat → Int32) → Prop) : Prop :=
  (vp_in a2 8 ∧ (vp_in a3 8 ∧ (∀ y8 : Int32, y8 = (V ((w1 + 26) + 1 + a2.toNatClampNeg) a3.toNatClampNeg) → ((y8 = (-1 : Int32) → Q (0 : Int32) V) ∧ (¬ y8 = (-1 : Int32) → (wX2_can w1 V a2 y8 a3 (fun r21 => ((r21 = 0 → Q (0 : Int32) V) ∧ (¬ r21 = 0 → (wX1_letsIn x w1 sh R V a2 y8 a3 (fun r33 V33 => ((r33 = 0 → Q (0 : Int32) V33) ∧ (¬ r33 = 0 → Q (1 : Int32) V33)))))))))))))
theorem mX1_wouldMeet {G : jG} {l : Launch} {d : Nat} (htr : l.stackTraces = false) (hdd : 42 ≤ d) {sh : List jH} {R : Nat → Nat → Option Nat} {V : Nat → Nat → Int32} {x : Nat} {w1 : Nat} (hT : jReg shX1 sh x) (hW1 : jReg shX2 sh w1) {a2 : Int32} {a3 : Int32} {Q : Int32 → (Nat → Nat → Int32) → Prop} (hw : wX1_wouldMeet x w1 sh R V a2 a3 Q) : JM G l MX1_wouldMeet d 0 0 [.ref x, .ref w1, .int a2, .int a3] (mk sh V R) (jWr sh R Q) jNo := by
  refine JM.intro (by decide) rfl htr (Nat.le_of_ble_eq_true rfl) ?_
  show J G l MX1_wouldMeet d 0 0 0 [(0, .ref x), (1, .ref w1), (2, .int a2), (3, .int a3)] [] (mk sh V R) _ _
  unfold wX1_wouldMeet at hw
  refine J.aload_n 1 dX1_wouldMeet_0 rfl ?_
  refine fgX1_415 rfl hW1 dX1_wouldMeet_1 ?_
  refine J.iload_n 2 dX1_wouldMeet_4 rfl ?_
  obtain ⟨h5, hw⟩ := hw
  refine JV.grid dX1_wouldMeet_5 (hW1.ge 26) (hW1.at 26 rfl) h5 ?_
  refine J.iload_n 3 dX1_wouldMeet_6 rfl ?_
  obtain ⟨h7, hw⟩ := hw
  refine JV.iald dX1_wouldMeet_7 (jrowg hW1.1) (jrowB hW1 h5) h7 ?_
  refine J.nm hw ?_
  clear hw
  intro y8 hw
  refine J.istore (lv' := [(4, .int y8), (0, .ref x), (1, .ref w1), (2, .int a2), (3, .int a3)]) dX1_wouldMeet_8 (by decide) rfl ?_
  refine J.iload 0 dX1_wouldMeet_10 rfl ?_
  refine J.iconst (v := (-1 : Int32)) dX1_wouldMeet_12 (by decide) ?_
  refine J.icmp_eq 43 dX1_wouldMeet_13 (by decide) ⟨fun c13 => ?_, fun c13 => ?_⟩
  · obtain ⟨hw, -⟩ := hw
    specialize hw c13
    refine J.iconst (v := (0 : Int32)) dX1_wouldMeet_43 (by decide) ?_
    exact J.zret rfl rfl dX1_wouldMeet_44 ⟨_, rfl, _, rfl, hw⟩
  · obtain ⟨-, hw⟩ := hw
    specialize hw c13
    refine J.aload_n 2 dX1_wouldMeet_16 rfl ?_
    refine J.iload_n 3 dX1_wouldMeet_17 rfl ?_
    refine J.iload 0 dX1_wouldMeet_18 rfl ?_
    refine J.iload_n 4 dX1_wouldMeet_20 rfl ?_
    refine uX1_432 rfl htr hW1 dX1_wouldMeet_21 (by omega) (Nat.le_of_ble_eq_true rfl) hw ?_
    clear hw
    intro r21 hw
    refine J.if_eq 43 dX1_wouldMeet_24 (by decide) ⟨fun c24 => ?_, fun c24 => ?_⟩
    · obtain ⟨hw, -⟩ := hw
      specialize hw c24
      refine J.iconst (v := (0 : Int32)) dX1_wouldMeet_43 (by decide) ?_
      exact J.zret rfl rfl dX1_wouldMeet_44 ⟨_, rfl, _, rfl, hw⟩
    · obtain ⟨-, hw⟩ := hw
      specialize hw c24
      refine J.aload_n 1 dX1_wouldMeet_27 rfl ?_
      refine J.aload_n 2 dX1_wouldMeet_28 rfl ?_
      refine J.iload_n 3 dX1_wouldMeet_29 rfl ?_
      refine J.iload 0 dX1_wouldMeet_30 rfl ?_
      refine J.iload_n 4 dX1_wouldMeet_32 rfl ?_
      refine uX1_435 rfl htr hT hW1 dX1_wouldMeet_33 (by omega) (Nat.le_of_ble_eq_true rfl) hw ?_
      clear hw
      intro r33 V33 hw
      refine J.if_eq 43 dX1_wouldMeet_36 (by decide) ⟨fun c36 => ?_, fun c36 => ?_⟩
      · obtain ⟨hw, -⟩ := hw
        specialize hw c36
        refine J.iconst (v := (0 : Int32)) dX1_wouldMeet_43 (by decide) ?_
        exact J.zret rfl rfl dX1_wouldMeet_44 ⟨_, rfl, _, rfl, hw⟩
      · obtain ⟨-, hw⟩ := hw
        specialize hw c36
        refine J.iconst (v := (1 : Int32)) dX1_wouldMeet_39 (by decide) ?_
        refine J.goto 44 dX1_wouldMeet_40 (by decide) ?_
        exact J.zret rfl rfl dX1_wouldMeet_44 ⟨_, rfl, _, rfl, hw⟩
theorem nrX1_424 {G : jG} {l : Launch} {M : jM} {d c n pc : Nat} {lv : List (Nat × Value)} {rest : List Value} {g : List jC} {post : Option Value → List jC → Prop} {xp : String → List jC → Prop} (hM : M.1.cls = RX1) (htr : l.stackTraces = false) {h : Nat} {a1 : Nat} {fs9 : List Value} (hk9 : g[h]? = some (.inr (7, fs9))) {Q : Int32 → Prop} (hd : decode M.2.1 pc = .ok (.invokevirtual 424, 3)) (hdd : 40 + 1 ≤ d) (hw8 : (rest.map fun v => v.category).sum ≤ 8) (hw : wX8_joy g h a1 Q) (kk : ∀ r, Q r → J G l M d c n (pc + 3) lv (.int r :: rest) g post xp) : J G l M d c n pc lv (.ref a1 :: .ref h :: rest) g post xp :=
  J.callV (As := [.ref a1]) (hcw := by rw [hM]; exact lw_V q622 q623 q624 q171 q625) (mX8_joy htr (Nat.le_refl _) hw) hd rfl ⟨7, _, _, hk9, rfl, rfl, fun _ => rfl⟩ ⟨rfl, by decide, by decide, by show _ = some 1; decide +kernel⟩ hw8 ⟨hdd, by decide⟩ jcc0 (fun r9 g9 h9 => by obtain ⟨rfl, r, rfl, h⟩ := h9; exact kk r h) jNo.x
abbrev MX1_joyBy : jM := (yX1_joyBy, cX1_joyBy, 5, some .int, [])
-- VisitingHours.joyBy(LVisitingHours$World;III)I
def wX1_joyBy (x : Nat) (w1 : Nat) (sh : List jH) (R : Nat → Nat → Option Nat) (V : Nat → Nat → Int32) (a2 : Int32) (a3 : Int32) (a4 : Int32) (Q : Int32 → (Nat → Nat → Int32) → Prop) : Prop :=
  (∀ o1 : Option Nat, o1 = (R w1 20) → ((o1 = none → (vp_in a2 8 ∧ (vp_in a3 8 ∧ Q (V ((w1 + 8) + 1 + a2.toNatClampNeg) a3.toNatClampNeg) V))) ∧ (∀ b4_1, o1 = some b4_1 → (∀ o19 : Option Nat, o19 = (R w1 20) → (wX1_sceneOf x w1 V a2 a3 a4 (fun V28 => (∃ b31_2, o19 = some b31_2 ∧ (∃ fs31 : List Value, (mk sh V28 R)[b31_2]? = some (.inr (7, fs31)) ∧ wX8_joy (mk sh V28 R) b31_2 (x + 111) (fun r31 => Q r31 V28)))))))))
theorem mX1_joyBy {G : jG} {l : Launch} {d : Nat} (htr : l.stackTraces = false) (hdd : 41 ≤ d) {sh : List jH} {R : Nat → Nat → Option Nat} {V : Nat → Nat → Int32} {x : Nat} {w1 : Nat} (hT : jReg shX1 sh x) (hW1 : jReg shX2 sh w1) {a2 : Int32} {a3 : Int32} {a4 : Int32} {Q : Int32 → (Nat → Nat → Int32) → Prop} (hw : wX1_joyBy x w1 sh R V a2 a3 a4 Q) : JM G l MX1_joyBy d 0 0 [.ref x, .ref w1, .int a2, .int a3, .int a4] (mk sh V R) (jWr sh R Q) jNo := by
  refine JM.intro (by decide) rfl htr (Nat.le_of_ble_eq_true rfl) ?_
  show J G l MX1_joyBy d 0 0 0 [(0, .ref x), (1, .ref w1), (2, .int a2), (3, .int a3), (4, .int a4)] [] (mk sh V R) _ _
  unfold wX1_joyBy at hw
  refine J.aload_n 1 dX1_joyBy_0 rfl ?_
  refine fgX1_389 rfl hW1 dX1_joyBy_1 ?_
  refine J.nmq hw ?_
  clear hw
  intro o1 hw
  refine J.ifnonnullQ 18 dX1_joyBy_4 (by decide) (fun b4_1 e9 => ?_) (fun e9 => ?_)
  · subst e9
    obtain ⟨-, hw⟩ := hw
    specialize hw _ rfl
    refine J.aload_n 1 dX1_joyBy_18 rfl ?_
    refine fgX1_389 rfl hW1 dX1_joyBy_19 ?_
    refine J.nmq hw ?_
    clear hw
    intro o19 hw
    refine J.aload_n 0 dX1_joyBy_22 rfl ?_
    refine J.aload_n 1 dX1_joyBy_23 rfl ?_
    refine J.iload_n 2 dX1_joyBy_24 rfl ?_
    refine J.iload_n 3 dX1_joyBy_25 rfl ?_
    refine J.iload 4 dX1_joyBy_26 rfl ?_
    refine uX1_420 rfl htr hT hW1 dX1_joyBy_28 (by omega) (by cases o19 <;> exact Nat.le_of_ble_eq_true rfl) hw ?_
    clear hw
    intro V28 hw
    obtain ⟨b31_2, rfl, hw⟩ := hw
    obtain ⟨fs31, hk31, hw⟩ := hw
    refine nrX1_424 rfl htr hk31 dX1_joyBy_31 (by omega) (Nat.le_of_ble_eq_true rfl) hw ?_
    clear hw
    intro r31 hw
    exact J.iret rfl dX1_joyBy_34 ⟨_, rfl, _, rfl, hw⟩
  · subst e9
    obtain ⟨hw, -⟩ := hw
    specialize hw rfl
    refine J.aload_n 1 dX1_joyBy_7 rfl ?_
    refine fgX1_155 rfl hW1 dX1_joyBy_8 ?_
    refine J.iload_n 2 dX1_joyBy_11 rfl ?_
    obtain ⟨h12, hw⟩ := hw
    refine JV.grid dX1_joyBy_12 (hW1.ge 8) (hW1.at 8 rfl) h12 ?_
    refine J.iload_n 3 dX1_joyBy_13 rfl ?_
    obtain ⟨h14, hw⟩ := hw
    refine JV.iald dX1_joyBy_14 (jrowg hW1.1) (jrowL hW1 h12) h14 ?_
    refine J.goto 34 dX1_joyBy_15 (by decide) ?_
    exact J.iret rfl dX1_joyBy_34 ⟨_, rfl, _, rfl, hw⟩
abbrev MX1_meetings : jM := (yX1_meetings, cX1_meetings, 6, some .int, [])
theorem uX1_439 {G : jG} {l : Launch} {M : jM} {d c n pc : Nat} {lv : List (Nat × Value)} {rest : List Value} {post : Option Value → List jC → Prop} {xp : String → List jC → Prop} (hM : M.1.cls = RX1) (htr : l.stackTraces = false) {sh : List jH} {V : Nat → Nat → Int32} {R : Nat → Nat → Option Nat} {x : Nat} {w1 : Nat} (hT : jReg shX1 sh x) (hW1 : jReg shX2 sh w1) {a2 : Int32} {a3 : Int32} {Q : Int32 → (Nat → Nat → Int32) → Prop} (hd : decode M.2.1 pc = .ok (.invokevirtual 439, 3)) (hdd : 42 + 1 ≤ d) (hw8 : (rest.map fun v => v.category).sum ≤ 8) (hw : wX1_wouldMeet x w1 sh R V a2 a3 Q) (kk : ∀ r V', Q r V' → J G l M d c n (pc + 3) lv (.int r :: rest) (mk sh V' R) post xp) : J G l M d c n pc lv (.int a3 :: .int a2 :: .ref w1 :: .ref x :: rest) (mk sh V R) post xp := by
  exact J.callV (As := [.ref w1, .int a2, .int a3]) (hcw := by rw [hM]; exact lw_V q506 q508 qs0 q144 q509) (mX1_wouldMeet htr (Nat.le_refl _) hT hW1 hw) hd rfl ⟨0, _, _, mk_at (hT.at 0 rfl), rfl, rfl, fun _ => rfl⟩ ⟨rfl, by decide, by decide, by show _ = some 3; decide +kernel⟩ hw8 ⟨hdd, by decide⟩ jcc0 (fun r9 g9 h9 => by obtain ⟨V9, rfl, r, rfl, h⟩ := h9; exact kk r V9 h) jNo.x
theorem uX1_443 {G : jG} {l : Launch} {M : jM} {d c n pc : Nat} {lv : List (Nat × Value)} {rest : List Value} {post : Option Value → List jC → Prop} {xp : String → List jC → Prop} (hM : M.1.cls = RX1) (htr : l.stackTraces = false) {sh : List jH} {V : Nat → Nat → Int32} {R : Nat → Nat → Option Nat} {x : Nat} {w1 : Nat} (hT : jReg shX1 sh x) (hW1 : jReg shX2 sh w1) {a2 : Int32} {a3 : Int32} {a4 : Int32} {Q : Int32 → (Nat → Nat → Int32) → Prop} (hd : decode M.2.1 pc = .ok (.invokevirtual 443, 3)) (hdd : 41 + 1 ≤ d) (hw8 : (rest.map fun v => v.category).sum ≤ 8) (hw : wX1_joyBy x w1 sh R V a2 a3 a4 Q) (kk : ∀ r V', Q r V' → J G l M d c n (pc + 3) lv (.int r :: rest) (mk sh V' R) post xp) : J G l M d c n pc lv (.int a4 :: .int a3 :: .int a2 :: .ref w1 :: .ref x :: rest) (mk sh V R) post xp := by
  exact J.callV (As := [.ref w1, .int a2, .int a3, .int a4]) (hcw := by rw [hM]; exact lw_V q618 q620 qs3 q144 q621) (mX1_joyBy htr (Nat.le_refl _) hT hW1 hw) hd rfl ⟨0, _, _, mk_at (hT.at 0 rfl), rfl, rfl, fun _ => rfl⟩ ⟨rfl, by decide, by decide, by show _ = some 4; decide +kernel⟩ hw8 ⟨hdd, by decide⟩ jcc0 (fun r9 g9 h9 => by obtain ⟨V9, rfl, r, rfl, h⟩ := h9; exact kk r V9 h) jNo.x
-- VisitingHours.meetings(Z)I
def wX1_meetings_22 (x : Nat) (sh : List jH) (R : Nat → Nat → Option Nat) (a1 : Int32) (Q : Int32 → (Nat → Nat → Int32) → Prop) (K7 : (Nat → Nat → Int32) → Int32 → Int32 → Int32 → Prop) : Nat → (Nat → Nat → Int32) → Int32 → Int32 → Int32 → Int32 → Prop
  | 0, _, _, _, _, _ => False
  | f + 1, V, x2, x3, x4, x5 =>
    (((8 : Int32) ≤ x5 → (∀ y81 : Int32, y81 = x4 + (1 : Int32) → K7 V x2 x3 y81)) ∧ (¬ (8 : Int32) ≤ x5 → (wX1_wouldMeet x (x + 1) sh R V x4 x5 (fun r38 V38 => ((r38 = 0 → (∀ y75 : Int32, y75 = x5 + (1 : Int32) → wX1_meetings_22 x sh R a1 Q K7 f V38 x2 x3 x4 y75)) ∧ (¬ r38 = 0 → (∀ y44 : Int32, y44 = x2 + (1 : Int32) → (vp_in x4 8 ∧ (vp_in x5 8 ∧ (wX1_joyBy x (x + 1) sh R V38 x4 (V38 (((x + 1) + 26) + 1 + x4.toNatClampNeg) x5.toNatClampNeg) x5 (fun r70 V70 => (∀ y74 : Int32, y74 = (x3 + r70) → (∀ y75 : Int32, y75 = x5 + (1 : Int32) → wX1_meetings_22 x sh R a1 Q K7 f V70 y44 y74 x4 y75)))))))))))))
theorem rX1_meetings_22 {G : jG} {l : Launch} {d : Nat} {c n : Nat} (htr : l.stackTraces = false) (hdd : 43 ≤ d) {sh : List jH} {R : Nat → Nat → Option Nat} {x : Nat} (hT : jReg shX1 sh x) {a1 : Int32} {Q : Int32 → (Nat → Nat → Int32) → Prop} {K7 : (Nat → Nat → Int32) → Int32 → Int32 → Int32 → Prop} (hK7 : ∀ (V : Nat → Nat → Int32) (x2 : Int32) (x3 : Int32) (x4 : Int32), K7 V x2 x3 x4 → J G l MX1_meetings d c n 7 [(0, .ref x), (1, .int a1), (2, .int x2), (3, .int x3), (4, .int x4)] [] (mk sh V R) (jWr sh R Q) jNo) : ∀ (f : Nat) (V : Nat → Nat → Int32) (x2 : Int32) (x3 : Int32) (x4 : Int32) (x5 : Int32), wX1_meetings_22 x sh R a1 Q K7 f V x2 x3 x4 x5 → J G l MX1_meetings d c n 22 [(0, .ref x), (1, .int a1), (2, .int x2), (3, .int x3), (4, .int x4), (5, .int x5)] [] (mk sh V R) (jWr sh R Q) jNo := by
  intro f
  induction f with
  | zero =>
    intro V x2 x3 x4 x5 hw
    rw [wX1_meetings_22] at hw
    exact hw.elim
  | succ f ih =>
    intro V x2 x3 x4 x5 hw
    rw [wX1_meetings_22] at hw
    refine J.iload 5 dX1_meetings_22 rfl ?_
    refine J.bipush (v := (8 : Int32)) dX1_meetings_24 (by decide) ?_
    refine J.icmp_ge 81 dX1_meetings_26 (by decide) ⟨fun c26 => ?_, fun c26 => ?_⟩
    · obtain ⟨hw, -⟩ := hw
      specialize hw c26
      refine J.iincN 4 (K := (1 : Int32)) (lv' := fun y81 => [(4, .int y81), (0, .ref x), (1, .int a1), (2, .int x2), (3, .int x3), (5, .int x5)]) dX1_meetings_81 rfl (by decide) (by decide) (fun _ => rfl) hw ?_
      clear hw
      intro y81 hw
      refine J.goto 7 dX1_meetings_84 (by decide) ?_
      exact J.pick [1, 2, 3, 4, 0] rfl (hK7 _ _ _ _ hw)
    · obtain ⟨-, hw⟩ := hw
      specialize hw c26
      refine J.aload_n 0 dX1_meetings_29 rfl ?_
      refine J.aload_n 0 dX1_meetings_30 rfl ?_
      refine fgX1_10 rfl hT dX1_meetings_31 ?_
      refine J.iload 4 dX1_meetings_34 rfl ?_
      refine J.iload 5 dX1_meetings_36 rfl ?_
      refine uX1_439 rfl htr hT (hT.sub 1 36 rfl) dX1_meetings_38 (by omega) (Nat.le_of_ble_eq_true rfl) hw ?_
      clear hw
      intro r38 V38 hw
      refine J.if_eq 75 dX1_meetings_41 (by decide) ⟨fun c41 => ?_, fun c41 => ?_⟩
      · obtain ⟨hw, -⟩ := hw
        specialize hw c41
        refine J.iincN 5 (K := (1 : Int32)) (lv' := fun y75 => [(5, .int y75), (0, .ref x), (1, .int a1), (2, .int x2), (3, .int x3), (4, .int x4)]) dX1_meetings_75 rfl (by decide) (by decide) (fun _ => rfl) hw ?_
        clear hw
        intro y75 hw
        refine J.goto 22 dX1_meetings_78 (by decide) ?_
        exact J.pick [1, 2, 3, 4, 5, 0] rfl (ih _ _ _ _ _ hw)
      · obtain ⟨-, hw⟩ := hw
        specialize hw c41
        refine J.iincN 2 (K := (1 : Int32)) (lv' := fun y44 => [(2, .int y44), (0, .ref x), (1, .int a1), (3, .int x3), (4, .int x4), (5, .int x5)]) dX1_meetings_44 rfl (by decide) (by decide) (fun _ => rfl) hw ?_
        clear hw
        intro y44 hw
        refine J.iload_n 3 dX1_meetings_47 rfl ?_
        refine J.aload_n 1 dX1_meetings_48 rfl ?_
        refine J.aload_n 1 dX1_meetings_49 rfl ?_
        refine fgX1_10 rfl hT dX1_meetings_50 ?_
        refine J.iload 4 dX1_meetings_53 rfl ?_
        refine J.aload_n 1 dX1_meetings_55 rfl ?_
        refine fgX1_10 rfl hT dX1_meetings_56 ?_
        refine fgX1_415 rfl (hT.sub 1 36 rfl) dX1_meetings_59 ?_
        refine J.iload 4 dX1_meetings_62 rfl ?_
        obtain ⟨h64, hw⟩ := hw
        refine JV.grid dX1_meetings_64 ((hT.sub 1 36 rfl).ge 26) ((hT.sub 1 36 rfl).at 26 rfl) h64 ?_
        refine J.iload 5 dX1_meetings_65 rfl ?_
        obtain ⟨h67, hw⟩ := hw
        refine JV.iald dX1_meetings_67 (jrowg (hT.sub 1 36 rfl).1) (jrowB (hT.sub 1 36 rfl) h64) h67 ?_
        refine J.iload 5 dX1_meetings_68 rfl ?_
        refine uX1_443 rfl htr hT (hT.sub 1 36 rfl) dX1_meetings_70 (by omega) (Nat.le_of_ble_eq_true rfl) hw ?_
        clear hw
        intro r70 V70 hw
        refine J.iadd dX1_meetings_73 ?_
        refine J.nm hw ?_
        clear hw
        intro y74 hw
        refine J.istore_n (lv' := [(3, .int y74), (2, .int y44), (0, .ref x), (1, .int a1), (4, .int x4), (5, .int x5)]) dX1_meetings_74 (by decide) rfl ?_
        refine J.iincN 5 (K := (1 : Int32)) (lv' := fun y75 => [(5, .int y75), (3, .int y74), (2, .int y44), (0, .ref x), (1, .int a1), (4, .int x4)]) dX1_meetings_75 rfl (by decide) (by decide) (fun _ => rfl) hw ?_
        clear hw
        intro y75 hw
        refine J.goto 22 dX1_meetings_78 (by decide) ?_
        exact J.pick [3, 4, 2, 1, 5, 0] rfl (ih _ _ _ _ _ hw)
def wX1_meetings_7 (x : Nat) (sh : List jH) (R : Nat → Nat → Option Nat) (a1 : Int32) (Q : Int32 → (Nat → Nat → Int32) → Prop) : Nat → (Nat → Nat → Int32) → Int32 → Int32 → Int32 → Prop
  | 0, _, _, _, _ => False
  | f + 1, V, x2, x3, x4 =>
    (((V (x + 1) 1) ≤ x4 → ((a1 = 0 → Q x2 V) ∧ (¬ a1 = 0 → Q x3 V))) ∧ (¬ (V (x + 1) 1) ≤ x4 → (∃ f9, wX1_meetings_22 x sh R a1 Q (fun V x2 x3 x4 => wX1_meetings_7 x sh R a1 Q f V x2 x3 x4) f9 V x2 x3 x4 (0 : Int32))))
theorem rX1_meetings_7 {G : jG} {l : Launch} {d : Nat} {c n : Nat} (htr : l.stackTraces = false) (hdd : 43 ≤ d) {sh : List jH} {R : Nat → Nat → Option Nat} {x : Nat} (hT : jReg shX1 sh x) {a1 : Int32} {Q : Int32 → (Nat → Nat → Int32) → Prop} : ∀ (f : Nat) (V : Nat → Nat → Int32) (x2 : Int32) (x3 : Int32) (x4 : Int32), wX1_meetings_7 x sh R a1 Q f V x2 x3 x4 → J G l MX1_meetings d c n 7 [(0, .ref x), (1, .int a1), (2, .int x2), (3, .int x3), (4, .int x4)] [] (mk sh V R) (jWr sh R Q) jNo := by
  intro f
  induction f with
  | zero =>
    intro V x2 x3 x4 hw
    rw [wX1_meetings_7] at hw
    exact hw.elim
  | succ f ih =>
    intro V x2 x3 x4 hw
    rw [wX1_meetings_7] at hw
    refine J.iload 4 dX1_meetings_7 rfl ?_
    refine J.aload_n 0 dX1_meetings_9 rfl ?_
    refine fgX1_10 rfl hT dX1_meetings_10 ?_
    refine fgX1_132 rfl (hT.sub 1 36 rfl) dX1_meetings_13 ?_
    refine J.icmp_ge 87 dX1_meetings_16 (by decide) ⟨fun c16 => ?_, fun c16 => ?_⟩
    · obtain ⟨hw, -⟩ := hw
      specialize hw c16
      refine J.iload_n 1 dX1_meetings_87 rfl ?_
      refine J.if_eq 95 dX1_meetings_88 (by decide) ⟨fun c88 => ?_, fun c88 => ?_⟩
      · obtain ⟨hw, -⟩ := hw
        specialize hw c88
        refine J.iload_n 2 dX1_meetings_95 rfl ?_
        exact J.iret rfl dX1_meetings_96 ⟨_, rfl, _, rfl, hw⟩
      · obtain ⟨-, hw⟩ := hw
        specialize hw c88
        refine J.iload_n 3 dX1_meetings_91 rfl ?_
        refine J.goto 96 dX1_meetings_92 (by decide) ?_
        exact J.iret rfl dX1_meetings_96 ⟨_, rfl, _, rfl, hw⟩
    · obtain ⟨-, hw⟩ := hw
      specialize hw c16
      refine J.iconst (v := (0 : Int32)) dX1_meetings_19 (by decide) ?_
      refine J.istore (lv' := [(5, .int (0 : Int32)), (0, .ref x), (1, .int a1), (2, .int x2), (3, .int x3), (4, .int x4)]) dX1_meetings_20 (by decide) rfl ?_
      obtain ⟨f9, hw⟩ := hw
      exact J.pick [1, 2, 3, 4, 5, 0] rfl (rX1_meetings_22 htr hdd hT ih f9 _ _ _ _ _ hw)
def wX1_meetings (x : Nat) (sh : List jH) (R : Nat → Nat → Option Nat) (V : Nat → Nat → Int32) (a1 : Int32) (Q : Int32 → (Nat → Nat → Int32) → Prop) : Prop :=
  (∃ f9, wX1_meetings_7 x sh R a1 Q f9 V (0 : Int32) (0 : Int32) (0 : Int32))
theorem mX1_meetings {G : jG} {l : Launch} {d : Nat} (htr : l.stackTraces = false) (hdd : 43 ≤ d) {sh : List jH} {R : Nat → Nat → Option Nat} {V : Nat → Nat → Int32} {x : Nat} (hT : jReg shX1 sh x) {a1 : Int32} {Q : Int32 → (Nat → Nat → Int32) → Prop} (hw : wX1_meetings x sh R V a1 Q) : JM G l MX1_meetings d 0 0 [.ref x, .int a1] (mk sh V R) (jWr sh R Q) jNo := by
  refine JM.intro (by decide) rfl htr (Nat.le_of_ble_eq_true rfl) ?_
  show J G l MX1_meetings d 0 0 0 [(0, .ref x), (1, .int a1)] [] (mk sh V R) _ _
  unfold wX1_meetings at hw
  refine J.iconst (v := (0 : Int32)) dX1_meetings_0 (by decide) ?_
  refine J.istore_n (lv' := [(2, .int (0 : Int32)), (0, .ref x), (1, .int a1)]) dX1_meetings_1 (by decide) rfl ?_
  refine J.iconst (v := (0 : Int32)) dX1_meetings_2 (by decide) ?_
  refine J.istore_n (lv' := [(3, .int (0 : Int32)), (2, .int (0 : Int32)), (0, .ref x), (1, .int a1)]) dX1_meetings_3 (by decide) rfl ?_
  refine J.iconst (v := (0 : Int32)) dX1_meetings_4 (by decide) ?_
  refine J.istore (lv' := [(4, .int (0 : Int32)), (3, .int (0 : Int32)), (2, .int (0 : Int32)), (0, .ref x), (1, .int a1)]) dX1_meetings_5 (by decide) rfl ?_
  obtain ⟨f9, hw⟩ := hw
  exact J.pick [3, 4, 2, 1, 0] rfl (rX1_meetings_7 htr hdd hT f9 _ _ _ _ hw)
abbrev MX1_taboo : jM := (yX1_taboo, cX1_taboo, 4, some .int, [])
-- VisitingHours.taboo()I
def wX1_taboo_17 (x : Nat) (sh : List jH) (R : Nat → Nat → Option Nat) (Q : Int32 → (Nat → Nat → Int32) → Prop) (K4 : (Nat → Nat → Int32) → Int32 → Int32 → Prop) : Nat → (Nat → Nat → Int32) → Int32 → Int32 → Int32 → Prop
  | 0, _, _, _, _ => False
  | f + 1, V, x1, x2, x3 =>
    (((8 : Int32) ≤ x3 → (∀ y65 : Int32, y65 = x2 + (1 : Int32) → K4 V x1 y65)) ∧ (¬ (8 : Int32) ≤ x3 → (vp_in x2 8 ∧ (vp_in x3 8 ∧ (((V (((x + 1) + 26) + 1 + x2.toNatClampNeg) x3.toNatClampNeg) = (-1 : Int32) → (∀ y58 : Int32, y58 = (x1 + (0 : Int32)) → (∀ y59 : Int32, y59 = x3 + (1 : Int32) → wX1_taboo_17 x sh R Q K4 f V y58 x2 y59))) ∧ (¬ (V (((x + 1) + 26) + 1 + x2.toNatClampNeg) x3.toNatClampNeg) = (-1 : Int32) → (wX1_wouldMeet x (x + 1) sh R V x2 x3 (fun r46 V46 => ((¬ r46 = 0 → (∀ y58 : Int32, y58 = (x1 + (0 : Int32)) → (∀ y59 : Int32, y59 = x3 + (1 : Int32) → wX1_taboo_17 x sh R Q K4 f V46 y58 x2 y59))) ∧ (r46 = 0 → (∀ y58 : Int32, y58 = (x1 + (1 : Int32)) → (∀ y59 : Int32, y59 = x3 + (1 : Int32) → wX1_taboo_17 x sh R Q K4 f V46 y58 x2 y59))))))))))))
theorem rX1_taboo_17 {G : jG} {l : Launch} {d : Nat} {c n : Nat} (htr : l.stackTraces = false) (hdd : 43 ≤ d) {sh : List jH} {R : Nat → Nat → Option Nat} {x : Nat} (hT : jReg shX1 sh x) {Q : Int32 → (Nat → Nat → Int32) → Prop} {K4 : (Nat → Nat → Int32) → Int32 → Int32 → Prop} (hK4 : ∀ (V : Nat → Nat → Int32) (x1 : Int32) (x2 : Int32), K4 V x1 x2 → J G l MX1_taboo d c n 4 [(0, .ref x), (1, .int x1), (2, .int x2)] [] (mk sh V R) (jWr sh R Q) jNo) : ∀ (f : Nat) (V : Nat → Nat → Int32) (x1 : Int32) (x2 : Int32) (x3 : Int32), wX1_taboo_17 x sh R Q K4 f V x1 x2 x3 → J G l MX1_taboo d c n 17 [(0, .ref x), (1, .int x1), (2, .int x2), (3, .int x3)] [] (mk sh V R) (jWr sh R Q) jNo := by
  intro f
  induction f with
  | zero =>
    intro V x1 x2 x3 hw
    rw [wX1_taboo_17] at hw
    exact hw.elim
  | succ f ih =>
    intro V x1 x2 x3 hw
    rw [wX1_taboo_17] at hw
    refine J.iload_n 3 dX1_taboo_17 rfl ?_
    refine J.bipush (v := (8 : Int32)) dX1_taboo_18 (by decide) ?_
    refine J.icmp_ge 65 dX1_taboo_20 (by decide) ⟨fun c20 => ?_, fun c20 => ?_⟩
    · obtain ⟨hw, -⟩ := hw
      specialize hw c20
      refine J.iincN 2 (K := (1 : Int32)) (lv' := fun y65 => [(2, .int y65), (0, .ref x), (1, .int x1), (3, .int x3)]) dX1_taboo_65 rfl (by decide) (by decide) (fun _ => rfl) hw ?_
      clear hw
      intro y65 hw
      refine J.goto 4 dX1_taboo_68 (by decide) ?_
      exact J.pick [1, 2, 0] rfl (hK4 _ _ _ hw)
    · obtain ⟨-, hw⟩ := hw
      specialize hw c20
      refine J.iload_n 1 dX1_taboo_23 rfl ?_
      refine J.aload_n 0 dX1_taboo_24 rfl ?_
      refine fgX1_10 rfl hT dX1_taboo_25 ?_
      refine fgX1_415 rfl (hT.sub 1 36 rfl) dX1_taboo_28 ?_
      refine J.iload_n 2 dX1_taboo_31 rfl ?_
      obtain ⟨h32, hw⟩ := hw
      refine JV.grid dX1_taboo_32 ((hT.sub 1 36 rfl).ge 26) ((hT.sub 1 36 rfl).at 26 rfl) h32 ?_
      refine J.iload_n 3 dX1_taboo_33 rfl ?_
      obtain ⟨h34, hw⟩ := hw
      refine JV.iald dX1_taboo_34 (jrowg (hT.sub 1 36 rfl).1) (jrowB (hT.sub 1 36 rfl) h32) h34 ?_
      refine J.iconst (v := (-1 : Int32)) dX1_taboo_35 (by decide) ?_
      refine J.icmp_eq 56 dX1_taboo_36 (by decide) ⟨fun c36 => ?_, fun c36 => ?_⟩
      · obtain ⟨hw, -⟩ := hw
        specialize hw c36
        refine J.iconst (v := (0 : Int32)) dX1_taboo_56 (by decide) ?_
        refine J.iadd dX1_taboo_57 ?_
        refine J.nm hw ?_
        clear hw
        intro y58 hw
        refine J.istore_n (lv' := [(1, .int y58), (0, .ref x), (2, .int x2), (3, .int x3)]) dX1_taboo_58 (by decide) rfl ?_
        refine J.iincN 3 (K := (1 : Int32)) (lv' := fun y59 => [(3, .int y59), (1, .int y58), (0, .ref x), (2, .int x2)]) dX1_taboo_59 rfl (by decide) (by decide) (fun _ => rfl) hw ?_
        clear hw
        intro y59 hw
        refine J.goto 17 dX1_taboo_62 (by decide) ?_
        exact J.pick [2, 1, 3, 0] rfl (ih _ _ _ _ hw)
      · obtain ⟨-, hw⟩ := hw
        specialize hw c36
        refine J.aload_n 0 dX1_taboo_39 rfl ?_
        refine J.aload_n 0 dX1_taboo_40 rfl ?_
        refine fgX1_10 rfl hT dX1_taboo_41 ?_
        refine J.iload_n 2 dX1_taboo_44 rfl ?_
        refine J.iload_n 3 dX1_taboo_45 rfl ?_
        refine uX1_439 rfl htr hT (hT.sub 1 36 rfl) dX1_taboo_46 (by omega) (Nat.le_of_ble_eq_true rfl) hw ?_
        clear hw
        intro r46 V46 hw
        refine J.if_ne 56 dX1_taboo_49 (by decide) ⟨fun c49 => ?_, fun c49 => ?_⟩
        · obtain ⟨hw, -⟩ := hw
          specialize hw c49
          refine J.iconst (v := (0 : Int32)) dX1_taboo_56 (by decide) ?_
          refine J.iadd dX1_taboo_57 ?_
          refine J.nm hw ?_
          clear hw
          intro y58 hw
          refine J.istore_n (lv' := [(1, .int y58), (0, .ref x), (2, .int x2), (3, .int x3)]) dX1_taboo_58 (by decide) rfl ?_
          refine J.iincN 3 (K := (1 : Int32)) (lv' := fun y59 => [(3, .int y59), (1, .int y58), (0, .ref x), (2, .int x2)]) dX1_taboo_59 rfl (by decide) (by decide) (fun _ => rfl) hw ?_
          clear hw
          intro y59 hw
          refine J.goto 17 dX1_taboo_62 (by decide) ?_
          exact J.pick [2, 1, 3, 0] rfl (ih _ _ _ _ hw)
        · obtain ⟨-, hw⟩ := hw
          specialize hw c49
          refine J.iconst (v := (1 : Int32)) dX1_taboo_52 (by decide) ?_
          refine J.goto 57 dX1_taboo_53 (by decide) ?_
          refine J.iadd dX1_taboo_57 ?_
          refine J.nm hw ?_
          clear hw
          intro y58 hw
          refine J.istore_n (lv' := [(1, .int y58), (0, .ref x), (2, .int x2), (3, .int x3)]) dX1_taboo_58 (by decide) rfl ?_
          refine J.iincN 3 (K := (1 : Int32)) (lv' := fun y59 => [(3, .int y59), (1, .int y58), (0, .ref x), (2, .int x2)]) dX1_taboo_59 rfl (by decide) (by decide) (fun _ => rfl) hw ?_
          clear hw
          intro y59 hw
          refine J.goto 17 dX1_taboo_62 (by decide) ?_
          exact J.pick [2, 1, 3, 0] rfl (ih _ _ _ _ hw)
def wX1_taboo_4 (x : Nat) (sh : List jH) (R : Nat → Nat → Option Nat) (Q : Int32 → (Nat → Nat → Int32) → Prop) : Nat → (Nat → Nat → Int32) → Int32 → Int32 → Prop
  | 0, _, _, _ => False
  | f + 1, V, x1, x2 =>
    (((V (x + 1) 1) ≤ x2 → Q x1 V) ∧ (¬ (V (x + 1) 1) ≤ x2 → (∃ f9, wX1_taboo_17 x sh R Q (fun V x1 x2 => wX1_taboo_4 x sh R Q f V x1 x2) f9 V x1 x2 (0 : Int32))))
theorem rX1_taboo_4 {G : jG} {l : Launch} {d : Nat} {c n : Nat} (htr : l.stackTraces = false) (hdd : 43 ≤ d) {sh : List jH} {R : Nat → Nat → Option Nat} {x : Nat} (hT : jReg shX1 sh x) {Q : Int32 → (Nat → Nat → Int32) → Prop} : ∀ (f : Nat) (V : Nat → Nat → Int32) (x1 : Int32) (x2 : Int32), wX1_taboo_4 x sh R Q f V x1 x2 → J G l MX1_taboo d c n 4 [(0, .ref x), (1, .int x1), (2, .int x2)] [] (mk sh V R) (jWr sh R Q) jNo := by
  intro f
  induction f with
  | zero =>
    intro V x1 x2 hw
    rw [wX1_taboo_4] at hw
    exact hw.elim
  | succ f ih =>
    intro V x1 x2 hw
    rw [wX1_taboo_4] at hw
    refine J.iload_n 2 dX1_taboo_4 rfl ?_
    refine J.aload_n 0 dX1_taboo_5 rfl ?_
    refine fgX1_10 rfl hT dX1_taboo_6 ?_
    refine fgX1_132 rfl (hT.sub 1 36 rfl) dX1_taboo_9 ?_
    refine J.icmp_ge 71 dX1_taboo_12 (by decide) ⟨fun c12 => ?_, fun c12 => ?_⟩
    · obtain ⟨hw, -⟩ := hw
      specialize hw c12
      refine J.iload_n 1 dX1_taboo_71 rfl ?_
      exact J.iret rfl dX1_taboo_72 ⟨_, rfl, _, rfl, hw⟩
    · obtain ⟨-, hw⟩ := hw
      specialize hw c12
      refine J.iconst (v := (0 : Int32)) dX1_taboo_15 (by decide) ?_
      refine J.istore_n (lv' := [(3, .int (0 : Int32)), (0, .ref x), (1, .int x1), (2, .int x2)]) dX1_taboo_16 (by decide) rfl ?_
      obtain ⟨f9, hw⟩ := hw
      exact J.pick [1, 2, 3, 0] rfl (rX1_taboo_17 htr hdd hT ih f9 _ _ _ _ hw)
def wX1_taboo (x : Nat) (sh : List jH) (R : Nat → Nat → Option Nat) (V : Nat → Nat → Int32) (Q : Int32 → (Nat → Nat → Int32) → Prop) : Prop :=
  (∃ f9, wX1_taboo_4 x sh R Q f9 V (0 : Int32) (0 : Int32))
theorem mX1_taboo {G : jG} {l : Launch} {d : Nat} (htr : l.stackTraces = false) (hdd : 43 ≤ d) {sh : List jH} {R : Nat → Nat → Option Nat} {V : Nat → Nat → Int32} {x : Nat} (hT : jReg shX1 sh x) {Q : Int32 → (Nat → Nat → Int32) → Prop} (hw : wX1_taboo x sh R V Q) : JM G l MX1_taboo d 0 0 [.ref x] (mk sh V R) (jWr sh R Q) jNo := by
  refine JM.intro (by decide) rfl htr (Nat.le_of_ble_eq_true rfl) ?_
  show J G l MX1_taboo d 0 0 0 [(0, .ref x)] [] (mk sh V R) _ _
  unfold wX1_taboo at hw
  refine J.iconst (v := (0 : Int32)) dX1_taboo_0 (by decide) ?_
  refine J.istore_n (lv' := [(1, .int (0 : Int32)), (0, .ref x)]) dX1_taboo_1 (by decide) rfl ?_
  refine J.iconst (v := (0 : Int32)) dX1_taboo_2 (by decide) ?_
  refine J.istore_n (lv' := [(2, .int (0 : Int32)), (1, .int (0 : Int32)), (0, .ref x)]) dX1_taboo_3 (by decide) rfl ?_
  obtain ⟨f9, hw⟩ := hw
  exact J.pick [2, 1, 0] rfl (rX1_taboo_4 htr hdd hT f9 _ _ _ hw)
abbrev MX1_meetsIn : jM := (yX1_meetsIn, cX1_meetsIn, 4, some .int, [])
-- VisitingHours.meetsIn(I)I
def wX1_meetsIn_4 (x : Nat) (sh : List jH) (R : Nat → Nat → Option Nat) (a1 : Int32) (Q : Int32 → (Nat → Nat → Int32) → Prop) : Nat → (Nat → Nat → Int32) → Int32 → Int32 → Prop
  | 0, _, _, _ => False
  | f + 1, V, x2, x3 =>
    (((8 : Int32) ≤ x3 → Q x2 V) ∧ (¬ (8 : Int32) ≤ x3 → (wX1_wouldMeet x (x + 1) sh R V a1 x3 (fun r18 V18 => ((r18 = 0 → (∀ y32 : Int32, y32 = (x2 ||| (0 : Int32)) → (∀ y33 : Int32, y33 = x3 + (1 : Int32) → wX1_meetsIn_4 x sh R a1 Q f V18 y32 y33))) ∧ (¬ r18 = 0 → (∀ y32 : Int32, y32 = (x2 ||| ((1 : Int32) <<< (x3 &&& 31))) → (∀ y33 : Int32, y33 = x3 + (1 : Int32) → wX1_meetsIn_4 x sh R a1 Q f V18 y32 y33))))))))
theorem rX1_meetsIn_4 {G : jG} {l : Launch} {d : Nat} {c n : Nat} (htr : l.stackTraces = false) (hdd : 43 ≤ d) {sh : List jH} {R : Nat → Nat → Option Nat} {x : Nat} (hT : jReg shX1 sh x) {a1 : Int32} {Q : Int32 → (Nat → Nat → Int32) → Prop} : ∀ (f : Nat) (V : Nat → Nat → Int32) (x2 : Int32) (x3 : Int32), wX1_meetsIn_4 x sh R a1 Q f V x2 x3 → J G l MX1_meetsIn d c n 4 [(0, .ref x), (1, .int a1), (2, .int x2), (3, .int x3)] [] (mk sh V R) (jWr sh R Q) jNo := by
  intro f
  induction f with
  | zero =>
    intro V x2 x3 hw
    rw [wX1_meetsIn_4] at hw
    exact hw.elim
  | succ f ih =>
    intro V x2 x3 hw
    rw [wX1_meetsIn_4] at hw
    refine J.iload_n 3 dX1_meetsIn_4 rfl ?_
    refine J.bipush (v := (8 : Int32)) dX1_meetsIn_5 (by decide) ?_
    refine J.icmp_ge 39 dX1_meetsIn_7 (by decide) ⟨fun c7 => ?_, fun c7 => ?_⟩
    · obtain ⟨hw, -⟩ := hw
      specialize hw c7
      refine J.iload_n 2 dX1_meetsIn_39 rfl ?_
      exact J.iret rfl dX1_meetsIn_40 ⟨_, rfl, _, rfl, hw⟩
    · obtain ⟨-, hw⟩ := hw
      specialize hw c7
      refine J.iload_n 2 dX1_meetsIn_10 rfl ?_
      refine J.aload_n 0 dX1_meetsIn_11 rfl ?_
      refine J.aload_n 0 dX1_meetsIn_12 rfl ?_
      refine fgX1_10 rfl hT dX1_meetsIn_13 ?_
      refine J.iload_n 1 dX1_meetsIn_16 rfl ?_
      refine J.iload_n 3 dX1_meetsIn_17 rfl ?_
      refine uX1_439 rfl htr hT (hT.sub 1 36 rfl) dX1_meetsIn_18 (by omega) (Nat.le_of_ble_eq_true rfl) hw ?_
      clear hw
      intro r18 V18 hw
      refine J.if_eq 30 dX1_meetsIn_21 (by decide) ⟨fun c21 => ?_, fun c21 => ?_⟩
      · obtain ⟨hw, -⟩ := hw
        specialize hw c21
        refine J.iconst (v := (0 : Int32)) dX1_meetsIn_30 (by decide) ?_
        refine J.ior dX1_meetsIn_31 ?_
        refine J.nm hw ?_
        clear hw
        intro y32 hw
        refine J.istore_n (lv' := [(2, .int y32), (0, .ref x), (1, .int a1), (3, .int x3)]) dX1_meetsIn_32 (by decide) rfl ?_
        refine J.iincN 3 (K := (1 : Int32)) (lv' := fun y33 => [(3, .int y33), (2, .int y32), (0, .ref x), (1, .int a1)]) dX1_meetsIn_33 rfl (by decide) (by decide) (fun _ => rfl) hw ?_
        clear hw
        intro y33 hw
        refine J.goto 4 dX1_meetsIn_36 (by decide) ?_
        exact J.pick [2, 3, 1, 0] rfl (ih _ _ _ hw)
      · obtain ⟨-, hw⟩ := hw
        specialize hw c21
        refine J.iconst (v := (1 : Int32)) dX1_meetsIn_24 (by decide) ?_
        refine J.iload_n 3 dX1_meetsIn_25 rfl ?_
        refine J.ishl dX1_meetsIn_26 ?_
        refine J.goto 31 dX1_meetsIn_27 (by decide) ?_
        refine J.ior dX1_meetsIn_31 ?_
        refine J.nm hw ?_
        clear hw
        intro y32 hw
        refine J.istore_n (lv' := [(2, .int y32), (0, .ref x), (1, .int a1), (3, .int x3)]) dX1_meetsIn_32 (by decide) rfl ?_
        refine J.iincN 3 (K := (1 : Int32)) (lv' := fun y33 => [(3, .int y33), (2, .int y32), (0, .ref x), (1, .int a1)]) dX1_meetsIn_33 rfl (by decide) (by decide) (fun _ => rfl) hw ?_
        clear hw
        intro y33 hw
        refine J.goto 4 dX1_meetsIn_36 (by decide) ?_
        exact J.pick [2, 3, 1, 0] rfl (ih _ _ _ hw)
def wX1_meetsIn (x : Nat) (sh : List jH) (R : Nat → Nat → Option Nat) (V : Nat → Nat → Int32) (a1 : Int32) (Q : Int32 → (Nat → Nat → Int32) → Prop) : Prop :=
  (∃ f9, wX1_meetsIn_4 x sh R a1 Q f9 V (0 : Int32) (0 : Int32))
theorem mX1_meetsIn {G : jG} {l : Launch} {d : Nat} (htr : l.stackTraces = false) (hdd : 43 ≤ d) {sh : List jH} {R : Nat → Nat → Option Nat} {V : Nat → Nat → Int32} {x : Nat} (hT : jReg shX1 sh x) {a1 : Int32} {Q : Int32 → (Nat → Nat → Int32) → Prop} (hw : wX1_meetsIn x sh R V a1 Q) : JM G l MX1_meetsIn d 0 0 [.ref x, .int a1] (mk sh V R) (jWr sh R Q) jNo := by
  refine JM.intro (by decide) rfl htr (Nat.le_of_ble_eq_true rfl) ?_
  show J G l MX1_meetsIn d 0 0 0 [(0, .ref x), (1, .int a1)] [] (mk sh V R) _ _
  unfold wX1_meetsIn at hw
  refine J.iconst (v := (0 : Int32)) dX1_meetsIn_0 (by decide) ?_
  refine J.istore_n (lv' := [(2, .int (0 : Int32)), (0, .ref x), (1, .int a1)]) dX1_meetsIn_1 (by decide) rfl ?_
  refine J.iconst (v := (0 : Int32)) dX1_meetsIn_2 (by decide) ?_
  refine J.istore_n (lv' := [(3, .int (0 : Int32)), (2, .int (0 : Int32)), (0, .ref x), (1, .int a1)]) dX1_meetsIn_3 (by decide) rfl ?_
  obtain ⟨f9, hw⟩ := hw
  exact J.pick [2, 3, 1, 0] rfl (rX1_meetsIn_4 htr hdd hT f9 _ _ _ hw)
abbrev MX1_allMeet : jM := (yX1_allMeet, cX1_allMeet, 3, some .boolean, [])
theorem uX1_617 {G : jG} {l : Launch} {M : jM} {d c n pc : Nat} {lv : List (Nat × Value)} {rest : List Value} {post : Option Value → List jC → Prop} {xp : String → List jC → Prop} (hM : M.1.cls = RX1) (htr : l.stackTraces = false) {sh : List jH} {V : Nat → Nat → Int32} {R : Nat → Nat → Option Nat} {x : Nat} (hT : jReg shX1 sh x) {a1 : Int32} {Q : Int32 → (Nat → Nat → Int32) → Prop} (hd : decode M.2.1 pc = .ok (.invokevirtual 617, 3)) (hdd : 43 + 1 ≤ d) (hw8 : (rest.map fun v => v.category).sum ≤ 8) (hw : wX1_meetsIn x sh R V a1 Q) (kk : ∀ r V', Q r V' → J G l M d c n (pc + 3) lv (.int r :: rest) (mk sh V' R) post xp) : J G l M d c n pc lv (.int a1 :: .ref x :: rest) (mk sh V R) post xp := by
  exact J.callV (As := [.int a1]) (hcw := by rw [hM]; exact lw_V q722 q724 qs13 q144 q725) (mX1_meetsIn htr (Nat.le_refl _) hT hw) hd rfl ⟨0, _, _, mk_at (hT.at 0 rfl), rfl, rfl, fun _ => rfl⟩ ⟨rfl, by decide, by decide, by show _ = some 1; decide +kernel⟩ hw8 ⟨hdd, by decide⟩ jcc0 (fun r9 g9 h9 => by obtain ⟨V9, rfl, r, rfl, h⟩ := h9; exact kk r V9 h) jNo.x
-- VisitingHours.allMeet(I)Z
def wX1_allMeet_2 (x : Nat) (sh : List jH) (R : Nat → Nat → Option Nat) (a1 : Int32) (Q : Int32 → (Nat → Nat → Int32) → Prop) : Nat → (Nat → Nat → Int32) → Int32 → Prop
  | 0, _, _ => False
  | f + 1, V, x2 =>
    (((V (x + 1) 1) ≤ x2 → Q (1 : Int32) V) ∧ (¬ (V (x + 1) 1) ≤ x2 → (wX1_meetsIn x sh R V x2 (fun r15 V15 => ((r15 = 0 → (∀ y33 : Int32, y33 = x2 + (1 : Int32) → wX1_allMeet_2 x sh R a1 Q f V15 y33)) ∧ (¬ r15 = 0 → (wX1_meetsIn x sh R V15 x2 (fun r23 V23 => ((¬ (r23 &&& a1) = 0 → (∀ y33 : Int32, y33 = x2 + (1 : Int32) → wX1_allMeet_2 x sh R a1 Q f V23 y33)) ∧ ((r23 &&& a1) = 0 → Q (0 : Int32) V23))))))))))
theorem rX1_allMeet_2 {G : jG} {l : Launch} {d : Nat} {c n : Nat} (htr : l.stackTraces = false) (hdd : 44 ≤ d) {sh : List jH} {R : Nat → Nat → Option Nat} {x : Nat} (hT : jReg shX1 sh x) {a1 : Int32} {Q : Int32 → (Nat → Nat → Int32) → Prop} : ∀ (f : Nat) (V : Nat → Nat → Int32) (x2 : Int32), wX1_allMeet_2 x sh R a1 Q f V x2 → J G l MX1_allMeet d c n 2 [(0, .ref x), (1, .int a1), (2, .int x2)] [] (mk sh V R) (jWr sh R Q) jNo := by
  intro f
  induction f with
  | zero =>
    intro V x2 hw
    rw [wX1_allMeet_2] at hw
    exact hw.elim
  | succ f ih =>
    intro V x2 hw
    rw [wX1_allMeet_2] at hw
    refine J.iload_n 2 dX1_allMeet_2 rfl ?_
    refine J.aload_n 0 dX1_allMeet_3 rfl ?_
    refine fgX1_10 rfl hT dX1_allMeet_4 ?_
    refine fgX1_132 rfl (hT.sub 1 36 rfl) dX1_allMeet_7 ?_
    refine J.icmp_ge 39 dX1_allMeet_10 (by decide) ⟨fun c10 => ?_, fun c10 => ?_⟩
    · obtain ⟨hw, -⟩ := hw
      specialize hw c10
      refine J.iconst (v := (1 : Int32)) dX1_allMeet_39 (by decide) ?_
      exact J.zret rfl rfl dX1_allMeet_40 ⟨_, rfl, _, rfl, hw⟩
    · obtain ⟨-, hw⟩ := hw
      specialize hw c10
      refine J.aload_n 0 dX1_allMeet_13 rfl ?_
      refine J.iload_n 2 dX1_allMeet_14 rfl ?_
      refine uX1_617 rfl htr hT dX1_allMeet_15 (by omega) (Nat.le_of_ble_eq_true rfl) hw ?_
      clear hw
      intro r15 V15 hw
      refine J.if_eq 33 dX1_allMeet_18 (by decide) ⟨fun c18 => ?_, fun c18 => ?_⟩
      · obtain ⟨hw, -⟩ := hw
        specialize hw c18
        refine J.iincN 2 (K := (1 : Int32)) (lv' := fun y33 => [(2, .int y33), (0, .ref x), (1, .int a1)]) dX1_allMeet_33 rfl (by decide) (by decide) (fun _ => rfl) hw ?_
        clear hw
        intro y33 hw
        refine J.goto 2 dX1_allMeet_36 (by decide) ?_
        exact J.pick [1, 2, 0] rfl (ih _ _ hw)
      · obtain ⟨-, hw⟩ := hw
        specialize hw c18
        refine J.aload_n 0 dX1_allMeet_21 rfl ?_
        refine J.iload_n 2 dX1_allMeet_22 rfl ?_
        refine uX1_617 rfl htr hT dX1_allMeet_23 (by omega) (Nat.le_of_ble_eq_true rfl) hw ?_
        clear hw
        intro r23 V23 hw
        refine J.iload_n 1 dX1_allMeet_26 rfl ?_
        refine J.iand dX1_allMeet_27 ?_
        refine J.if_ne 33 dX1_allMeet_28 (by decide) ⟨fun c28 => ?_, fun c28 => ?_⟩
        · obtain ⟨hw, -⟩ := hw
          specialize hw c28
          refine J.iincN 2 (K := (1 : Int32)) (lv' := fun y33 => [(2, .int y33), (0, .ref x), (1, .int a1)]) dX1_allMeet_33 rfl (by decide) (by decide) (fun _ => rfl) hw ?_
          clear hw
          intro y33 hw
          refine J.goto 2 dX1_allMeet_36 (by decide) ?_
          exact J.pick [1, 2, 0] rfl (ih _ _ hw)
        · obtain ⟨-, hw⟩ := hw
          specialize hw c28
          refine J.iconst (v := (0 : Int32)) dX1_allMeet_31 (by decide) ?_
          exact J.zret rfl rfl dX1_allMeet_32 ⟨_, rfl, _, rfl, hw⟩
def wX1_allMeet (x : Nat) (sh : List jH) (R : Nat → Nat → Option Nat) (V : Nat → Nat → Int32) (a1 : Int32) (Q : Int32 → (Nat → Nat → Int32) → Prop) : Prop :=
  (∃ f9, wX1_allMeet_2 x sh R a1 Q f9 V (0 : Int32))
theorem mX1_allMeet {G : jG} {l : Launch} {d : Nat} (htr : l.stackTraces = false) (hdd : 44 ≤ d) {sh : List jH} {R : Nat → Nat → Option Nat} {V : Nat → Nat → Int32} {x : Nat} (hT : jReg shX1 sh x) {a1 : Int32} {Q : Int32 → (Nat → Nat → Int32) → Prop} (hw : wX1_allMeet x sh R V a1 Q) : JM G l MX1_allMeet d 0 0 [.ref x, .int a1] (mk sh V R) (jWr sh R Q) jNo := by
  refine JM.intro (by decide) rfl htr (Nat.le_of_ble_eq_true rfl) ?_
  show J G l MX1_allMeet d 0 0 0 [(0, .ref x), (1, .int a1)] [] (mk sh V R) _ _
  unfold wX1_allMeet at hw
  refine J.iconst (v := (0 : Int32)) dX1_allMeet_0 (by decide) ?_
  refine J.istore_n (lv' := [(2, .int (0 : Int32)), (0, .ref x), (1, .int a1)]) dX1_allMeet_1 (by decide) rfl ?_
  obtain ⟨f9, hw⟩ := hw
  exact J.pick [1, 2, 0] rfl (rX1_allMeet_2 htr hdd hT f9 _ _ hw)
abbrev MX1_dry : jM := (yX1_dry, cX1_dry, 3, some .int, [])
theorem uX1_585 {G : jG} {l : Launch} {M : jM} {d c n pc : Nat} {lv : List (Nat × Value)} {rest : List Value} {post : Option Value → List jC → Prop} {xp : String → List jC → Prop} (hM : M.1.cls = RX1) (htr : l.stackTraces = false) {sh : List jH} {V : Nat → Nat → Int32} {R : Nat → Nat → Option Nat} {a1 : Int32} {Q : Int32 → Prop} (hd : decode M.2.1 pc = .ok (.invokestatic 585, 3)) (hdd : 0 + 1 ≤ d) (hw8 : (rest.map fun v => v.category).sum ≤ 8) (hw : wJ16_bitCount a1 Q) (kk : ∀ r, Q r → J G l M d c n (pc + 3) lv (.int r :: rest) (mk sh V R) post xp) : J G l M d c n pc lv (.int a1 :: rest) (mk sh V R) post xp := by
  exact J.callS (As := [.int a1]) (hcw := by rw [hM]; exact lw_S q712 q713 q168 q714) (mJ16_bitCount htr hw) hd rfl ⟨by decide, by decide, by show _ = some 1; decide +kernel⟩ hw8 ⟨hdd, by decide⟩ jcc0 (fun r9 g9 h9 => by obtain ⟨rfl, r, rfl, h⟩ := h9; exact kk r h) jNo.x
theorem uX1_620 {G : jG} {l : Launch} {M : jM} {d c n pc : Nat} {lv : List (Nat × Value)} {rest : List Value} {post : Option Value → List jC → Prop} {xp : String → List jC → Prop} (hM : M.1.cls = RX1) (htr : l.stackTraces = false) {sh : List jH} {V : Nat → Nat → Int32} {R : Nat → Nat → Option Nat} {x : Nat} (hT : jReg shX1 sh x) {a1 : Int32} {Q : Int32 → (Nat → Nat → Int32) → Prop} (hd : decode M.2.1 pc = .ok (.invokevirtual 620, 3)) (hdd : 44 + 1 ≤ d) (hw8 : (rest.map fun v => v.category).sum ≤ 8) (hw : wX1_allMeet x sh R V a1 Q) (kk : ∀ r V', Q r V' → J G l M d c n (pc + 3) lv (.int r :: rest) (mk sh V' R) post xp) : J G l M d c n pc lv (.int a1 :: .ref x :: rest) (mk sh V R) post xp := by
  exact J.callV (As := [.int a1]) (hcw := by rw [hM]; exact lw_V q718 q720 qs12 q144 q721) (mX1_allMeet htr (Nat.le_refl _) hT hw) hd rfl ⟨0, _, _, mk_at (hT.at 0 rfl), rfl, rfl, fun _ => rfl⟩ ⟨rfl, by decide, by decide, by show _ = some 1; decide +kernel⟩ hw8 ⟨hdd, by decide⟩ jcc0 (fun r9 g9 h9 => by obtain ⟨V9, rfl, r, rfl, h⟩ := h9; exact kk r V9 h) jNo.x
-- VisitingHours.dry()I
def wX1_dry_27 (x : Nat) (sh : List jH) (R : Nat → Nat → Option Nat) (Q : Int32 → (Nat → Nat → Int32) → Prop) (K4 : (Nat → Nat → Int32) → Int32 → Int32 → Prop) (V : Nat → Nat → Int32) (x1 : Int32) (x2 : Int32) : Prop :=
  (wX1_allMeet x sh R V x2 (fun r29 V29 => ((r29 = 0 → (∀ y37 : Int32, y37 = x2 + (1 : Int32) → K4 V29 x1 y37)) ∧ (¬ r29 = 0 → (∀ y37 : Int32, y37 = x2 + (1 : Int32) → K4 V29 x2 y37)))))
theorem rX1_dry_27 {G : jG} {l : Launch} {d : Nat} {c n : Nat} (htr : l.stackTraces = false) (hdd : 45 ≤ d) {sh : List jH} {R : Nat → Nat → Option Nat} {x : Nat} (hT : jReg shX1 sh x) {Q : Int32 → (Nat → Nat → Int32) → Prop} {K4 : (Nat → Nat → Int32) → Int32 → Int32 → Prop} (hK4 : ∀ (V : Nat → Nat → Int32) (x1 : Int32) (x2 : Int32), K4 V x1 x2 → J G l MX1_dry d c n 4 [(0, .ref x), (1, .int x1), (2, .int x2)] [] (mk sh V R) (jWr sh R Q) jNo) {V : Nat → Nat → Int32} {x1 : Int32} {x2 : Int32} (hw : wX1_dry_27 x sh R Q K4 V x1 x2) : J G l MX1_dry d c n 27 [(0, .ref x), (1, .int x1), (2, .int x2)] [] (mk sh V R) (jWr sh R Q) jNo := by
  unfold wX1_dry_27 at hw
  refine J.aload_n 0 dX1_dry_27 rfl ?_
  refine J.iload_n 2 dX1_dry_28 rfl ?_
  refine uX1_620 rfl htr hT dX1_dry_29 (by omega) (Nat.le_of_ble_eq_true rfl) hw ?_
  clear hw
  intro r29 V29 hw
  refine J.if_eq 37 dX1_dry_32 (by decide) ⟨fun c32 => ?_, fun c32 => ?_⟩
  · obtain ⟨hw, -⟩ := hw
    specialize hw c32
    refine J.iincN 2 (K := (1 : Int32)) (lv' := fun y37 => [(2, .int y37), (0, .ref x), (1, .int x1)]) dX1_dry_37 rfl (by decide) (by decide) (fun _ => rfl) hw ?_
    clear hw
    intro y37 hw
    refine J.goto 4 dX1_dry_40 (by decide) ?_
    exact J.pick [1, 2, 0] rfl (hK4 _ _ _ hw)
  · obtain ⟨-, hw⟩ := hw
    specialize hw c32
    refine J.iload_n 2 dX1_dry_35 rfl ?_
    refine J.istore_n (lv' := [(1, .int x2), (0, .ref x), (2, .int x2)]) dX1_dry_36 (by decide) rfl ?_
    refine J.iincN 2 (K := (1 : Int32)) (lv' := fun y37 => [(2, .int y37), (1, .int x2), (0, .ref x)]) dX1_dry_37 rfl (by decide) (by decide) (fun _ => rfl) hw ?_
    clear hw
    intro y37 hw
    refine J.goto 4 dX1_dry_40 (by decide) ?_
    exact J.pick [2, 1, 0] rfl (hK4 _ _ _ hw)
def wX1_dry_4 (x : Nat) (sh : List jH) (R : Nat → Nat → Option Nat) (Q : Int32 → (Nat → Nat → Int32) → Prop) : Nat → (Nat → Nat → Int32) → Int32 → Int32 → Prop
  | 0, _, _, _ => False
  | f + 1, V, x1, x2 =>
    (((256 : Int32) ≤ x2 → Q x1 V) ∧ (¬ (256 : Int32) ≤ x2 → ((x1 = (-1 : Int32) → wX1_dry_27 x sh R Q (fun V x1 x2 => wX1_dry_4 x sh R Q f V x1 x2) V x1 x2) ∧ (¬ x1 = (-1 : Int32) → (wJ16_bitCount x2 (fun r17 => (wJ16_bitCount x1 (fun r21 => ((r21 ≤ r17 → (∀ y37 : Int32, y37 = x2 + (1 : Int32) → wX1_dry_4 x sh R Q f V x1 y37)) ∧ (¬ r21 ≤ r17 → wX1_dry_27 x sh R Q (fun V x1 x2 => wX1_dry_4 x sh R Q f V x1 x2) V x1 x2))))))))))
theorem rX1_dry_4 {G : jG} {l : Launch} {d : Nat} {c n : Nat} (htr : l.stackTraces = false) (hdd : 45 ≤ d) {sh : List jH} {R : Nat → Nat → Option Nat} {x : Nat} (hT : jReg shX1 sh x) {Q : Int32 → (Nat → Nat → Int32) → Prop} : ∀ (f : Nat) (V : Nat → Nat → Int32) (x1 : Int32) (x2 : Int32), wX1_dry_4 x sh R Q f V x1 x2 → J G l MX1_dry d c n 4 [(0, .ref x), (1, .int x1), (2, .int x2)] [] (mk sh V R) (jWr sh R Q) jNo := by
  intro f
  induction f with
  | zero =>
    intro V x1 x2 hw
    rw [wX1_dry_4] at hw
    exact hw.elim
  | succ f ih =>
    intro V x1 x2 hw
    rw [wX1_dry_4] at hw
    refine J.iload_n 2 dX1_dry_4 rfl ?_
    refine J.sipush (v := (256 : Int32)) dX1_dry_5 (by decide) ?_
    refine J.icmp_ge 43 dX1_dry_8 (by decide) ⟨fun c8 => ?_, fun c8 => ?_⟩
    · obtain ⟨hw, -⟩ := hw
      specialize hw c8
      refine J.iload_n 1 dX1_dry_43 rfl ?_
      exact J.iret rfl dX1_dry_44 ⟨_, rfl, _, rfl, hw⟩
    · obtain ⟨-, hw⟩ := hw
      specialize hw c8
      refine J.iload_n 1 dX1_dry_11 rfl ?_
      refine J.iconst (v := (-1 : Int32)) dX1_dry_12 (by decide) ?_
      refine J.icmp_eq 27 dX1_dry_13 (by decide) ⟨fun c13 => ?_, fun c13 => ?_⟩
      · obtain ⟨hw, -⟩ := hw
        specialize hw c13
        exact (rX1_dry_27 htr hdd hT ih hw)
      · obtain ⟨-, hw⟩ := hw
        specialize hw c13
        refine J.iload_n 2 dX1_dry_16 rfl ?_
        refine uX1_585 rfl htr dX1_dry_17 (by omega) (Nat.le_of_ble_eq_true rfl) hw ?_
        clear hw
        intro r17 hw
        refine J.iload_n 1 dX1_dry_20 rfl ?_
        refine uX1_585 rfl htr dX1_dry_21 (by omega) (Nat.le_of_ble_eq_true rfl) hw ?_
        clear hw
        intro r21 hw
        refine J.icmp_ge 37 dX1_dry_24 (by decide) ⟨fun c24 => ?_, fun c24 => ?_⟩
        · obtain ⟨hw, -⟩ := hw
          specialize hw c24
          refine J.iincN 2 (K := (1 : Int32)) (lv' := fun y37 => [(2, .int y37), (0, .ref x), (1, .int x1)]) dX1_dry_37 rfl (by decide) (by decide) (fun _ => rfl) hw ?_
          clear hw
          intro y37 hw
          refine J.goto 4 dX1_dry_40 (by decide) ?_
          exact J.pick [1, 2, 0] rfl (ih _ _ _ hw)
        · obtain ⟨-, hw⟩ := hw
          specialize hw c24
          exact (rX1_dry_27 htr hdd hT ih hw)
def wX1_dry (x : Nat) (sh : List jH) (R : Nat → Nat → Option Nat) (V : Nat → Nat → Int32) (Q : Int32 → (Nat → Nat → Int32) → Prop) : Prop :=
  (∃ f9, wX1_dry_4 x sh R Q f9 V (-1 : Int32) (0 : Int32))
theorem mX1_dry {G : jG} {l : Launch} {d : Nat} (htr : l.stackTraces = false) (hdd : 45 ≤ d) {sh : List jH} {R : Nat → Nat → Option Nat} {V : Nat → Nat → Int32} {x : Nat} (hT : jReg shX1 sh x) {Q : Int32 → (Nat → Nat → Int32) → Prop} (hw : wX1_dry x sh R V Q) : JM G l MX1_dry d 0 0 [.ref x] (mk sh V R) (jWr sh R Q) jNo := by
  refine JM.intro (by decide) rfl htr (Nat.le_of_ble_eq_true rfl) ?_
  show J G l MX1_dry d 0 0 0 [(0, .ref x)] [] (mk sh V R) _ _
  unfold wX1_dry at hw
  refine J.iconst (v := (-1 : Int32)) dX1_dry_0 (by decide) ?_
  refine J.istore_n (lv' := [(1, .int (-1 : Int32)), (0, .ref x)]) dX1_dry_1 (by decide) rfl ?_
  refine J.iconst (v := (0 : Int32)) dX1_dry_2 (by decide) ?_
  refine J.istore_n (lv' := [(2, .int (0 : Int32)), (1, .int (-1 : Int32)), (0, .ref x)]) dX1_dry_3 (by decide) rfl ?_
  obtain ⟨f9, hw⟩ := hw
  exact J.pick [2, 1, 0] rfl (rX1_dry_4 htr hdd hT f9 _ _ _ hw)
theorem nrX1_526 {G : jG} {l : Launch} {M : jM} {d c n pc : Nat} {lv : List (Nat × Value)} {rest : List Value} {g : List jC} {post : Option Value → List jC → Prop} {xp : String → List jC → Prop} (hM : M.1.cls = RX1) (htr : l.stackTraces = false) {h : Nat} {a1 : Int32} {fs9 : List Value} (hk9 : g[h]? = some (.inr (15, fs9))) {Q : Option Nat → List jC → Prop} (hd : decode M.2.1 pc = .ok (.invokevirtual 526, 3)) (hdd : 3 + 1 ≤ d) (hw8 : (rest.map fun v => v.category).sum ≤ 8) (hw : wJ2_remove g h a1 Q) (kk : ∀ r g', Q r g' → J G l M d c n (pc + 3) lv (va_rf r :: rest) g' post xp) : J G l M d c n pc lv (.int a1 :: .ref h :: rest) g post xp :=
  J.callV (As := [.int a1]) (hcw := by rw [hM]; exact lw_V q763 q764 q765 q150 q766) (mJ2_remove htr (Nat.le_refl _) hw) hd rfl ⟨15, _, _, hk9, rfl, rfl, fun _ => rfl⟩ ⟨rfl, by decide, by decide, by show _ = some 1; decide +kernel⟩ hw8 ⟨hdd, by decide⟩ jcc0 (fun r9 g9 h9 => by obtain ⟨r, rfl, h⟩ := h9; exact kk r g9 h) jNo.x
theorem nrX1_684 {G : jG} {l : Launch} {M : jM} {d c n pc : Nat} {lv : List (Nat × Value)} {rest : List Value} {g : List jC} {post : Option Value → List jC → Prop} {xp : String → List jC → Prop} (hM : M.1.cls = RX1) (htr : l.stackTraces = false) {h : Nat} {fs9 : List Value} (hk9 : g[h]? = some (.inr (15, fs9))) {Q : Int32 → Prop} (hd : decode M.2.1 pc = .ok (.invokevirtual 684, 3)) (hdd : 0 + 1 ≤ d) (hw8 : (rest.map fun v => v.category).sum ≤ 8) (hw : wJ2_isEmpty g h Q) (kk : ∀ r, Q r → J G l M d c n (pc + 3) lv (.int r :: rest) g post xp) : J G l M d c n pc lv (.ref h :: rest) g post xp :=
  J.callV (As := []) (hcw := by rw [hM]; exact lw_V q758 q759 q760 q150 q761) (mJ2_isEmpty htr (Nat.le_refl _) hw) hd rfl ⟨15, _, _, hk9, rfl, rfl, fun _ => rfl⟩ ⟨rfl, by decide, by decide, by show _ = some 0; decide +kernel⟩ hw8 ⟨hdd, by decide⟩ jcc0 (fun r9 g9 h9 => by obtain ⟨rfl, r, rfl, h⟩ := h9; exact kk r h) jNo.x
abbrev MX1_undo : jM := (yX1_undo, cX1_undo, 1, some .boolean, [])
-- VisitingHours.undo()Z
def wX1_undo (x : Nat) (sh : List jH) (V : Nat → Nat → Int32) (R : Nat → Nat → Option Nat) (c : Nat) (n : Nat) (Q : Int32 → List jH → (Nat → Nat → Int32) → (Nat → Nat → Option Nat) → Prop) : Prop :=
  (∃ fs4 : List Value, (mk sh V R)[(x + 148)]? = some (.inr (15, fs4)) ∧ wJ2_isEmpty (mk sh V R) (x + 148) (fun r4 => ((r4 = 0 → (∃ fs24 : List Value, (mk sh V R)[(x + 148)]? = some (.inr (15, fs24)) ∧ wJ2_size (mk sh V R) (x + 148) (fun r24 => (∃ fs29 : List Value, (mk sh V R)[(x + 148)]? = some (.inr (15, fs29)) ∧ wJ2_remove (mk sh V R) (x + 148) (r24 - (1 : Int32)) (fun r29 g29 => (∃ (sh29 : List jH) (V29 : Nat → Nat → Int32) (R29 : Nat → Nat → Option Nat), g29 = mk sh29 V29 R29 ∧ (jReg shX1 sh29 x ∧ (∃ b32_1, r29 = some b32_1 ∧ (∃ fs32 : List Value, (mk sh29 V29 R29)[b32_1]? = some (.inr (1, fs32)) ∧ jn ≤ b32_1 ∧ (jReg shX2 sh29 b32_1 ∧ (wX2_likens (x + 1) b32_1 sh29 V29 R29 (fun V35 R35 => Q (1 : Int32) sh29 V35 R35)))))))))))) ∧ (¬ r4 = 0 → Q (0 : Int32) sh V R))))
theorem mX1_undo {G : jG} {l : Launch} {d : Nat} (htr : l.stackTraces = false) (hdd : 5 ≤ d) {sh : List jH} {V : Nat → Nat → Int32} {R : Nat → Nat → Option Nat} {c : Nat} {n : Nat} {x : Nat} (hT : jReg shX1 sh x) {Q : Int32 → List jH → (Nat → Nat → Int32) → (Nat → Nat → Option Nat) → Prop} (hw : wX1_undo x sh V R c n Q) : JM G l MX1_undo d c n [.ref x] (mk sh V R) (jSr Q) jNo := by
  refine JM.intro (by decide) rfl htr (Nat.le_of_ble_eq_true rfl) ?_
  show J G l MX1_undo d c n 0 [(0, .ref x)] [] (mk sh V R) _ _
  unfold wX1_undo at hw
  refine J.aload_n 0 dX1_undo_0 rfl ?_
  refine fgX1_42 rfl hT dX1_undo_1 ?_
  obtain ⟨fs4, hk4, hw⟩ := hw
  refine nrX1_684 rfl htr hk4 dX1_undo_4 (by omega) (Nat.le_of_ble_eq_true rfl) hw ?_
  clear hw
  intro r4 hw
  refine J.if_eq 12 dX1_undo_7 (by decide) ⟨fun c7 => ?_, fun c7 => ?_⟩
  · obtain ⟨hw, -⟩ := hw
    specialize hw c7
    refine J.aload_n 0 dX1_undo_12 rfl ?_
    refine fgX1_10 rfl hT dX1_undo_13 ?_
    refine J.aload_n 0 dX1_undo_16 rfl ?_
    refine fgX1_42 rfl hT dX1_undo_17 ?_
    refine J.aload_n 0 dX1_undo_20 rfl ?_
    refine fgX1_42 rfl hT dX1_undo_21 ?_
    obtain ⟨fs24, hk24, hw⟩ := hw
    refine nrX1_378 rfl htr hk24 dX1_undo_24 (by omega) (Nat.le_of_ble_eq_true rfl) hw ?_
    clear hw
    intro r24 hw
    refine J.iconst (v := (1 : Int32)) dX1_undo_27 (by decide) ?_
    refine J.isub dX1_undo_28 ?_
    obtain ⟨fs29, hk29, hw⟩ := hw
    refine nrX1_526 rfl htr hk29 dX1_undo_29 (by omega) (Nat.le_of_ble_eq_true rfl) hw ?_
    clear hw
    intro r29 g29 hw
    obtain ⟨sh29, V29, R29, rfl, hw⟩ := hw
    clear hT
    obtain ⟨hT, hw⟩ := hw
    obtain ⟨b32_1, rfl, hw⟩ := hw
    obtain ⟨fs32, hk32, hn32, hw⟩ := hw
    refine J.castS dX1_undo_32 hn32 hk32 rfl q195 ?_
    obtain ⟨hq35_b32_1, hw⟩ := hw
    refine uX1_259 rfl htr (hT.sub 1 36 rfl) hq35_b32_1 dX1_undo_35 (by omega) (Nat.le_of_ble_eq_true rfl) hw ?_
    clear hw
    intro V35 R35 hw
    refine J.pop dX1_undo_38 rfl ?_
    refine J.iconst (v := (1 : Int32)) dX1_undo_39 (by decide) ?_
    exact J.zret rfl rfl dX1_undo_40 ⟨_, _, _, rfl, _, rfl, hw⟩
  · obtain ⟨-, hw⟩ := hw
    specialize hw c7
    refine J.iconst (v := (0 : Int32)) dX1_undo_10 (by decide) ?_
    exact J.zret rfl rfl dX1_undo_11 ⟨_, _, _, rfl, _, rfl, hw⟩
theorem fgX1_19 {G : jG} {l : Launch} {M : jM} {d c n pc : Nat} {lv : List (Nat × Value)} {st : List Value} {sh : List jH} {V : Nat → Nat → Int32} {R : Nat → Nat → Option Nat} {post : Option Value → List jC → Prop} {xp : String → List jC → Prop} {x : Nat} (hM : M.1.cls = RX1) (hT : jReg shX1 sh x) (hd : decode M.2.1 pc = .ok (.getfield 19, 3)) (kk : J G l M d c n (pc + 3) lv (.ref (x + 73) :: st) (mk sh V R) post xp) : J G l M d c n pc lv (.ref x :: st) (mk sh V R) post xp := JV.getf (C := RX1) (T0 := TX1) (N := 16) 2 hd hT.1 (hT.at 0 rfl) rfl in_X1 (by decide) (by rw [hM]; exact q435) rfl rfl kk
theorem fpX1_687 {G : jG} {l : Launch} {M : jM} {d c n pc : Nat} {lv : List (Nat × Value)} {st : List Value} {sh : List jH} {V : Nat → Nat → Int32} {R : Nat → Nat → Option Nat} {post : Option Value → List jC → Prop} {xp : String → List jC → Prop} {x : Nat} (hM : M.1.cls = RX1) (hT : jReg shX1 sh x) {x9 : Int32} (hd : decode M.2.1 pc = .ok (.putfield 687, 3)) (hz : jz x9) (kk : J G l M d c n (pc + 3) lv st (mk sh (vset V x 3 x9) R) post xp) : J G l M d c n pc lv (.int x9 :: .ref x :: st) (mk sh V R) post xp := JV.puti (C := RX1) (T0 := TX1) (N := 16) (o := 0) 3 hd hT.1 (hT.at 0 rfl) rfl in_X1 tyX1 tyX1_ok nmX1 (by decide) (by rw [hM]; exact q436) rfl rfl (jz_put hz) rfl kk
abbrev MX1_image : jM := (yX1_image, cX1_image, 1, none, [])
-- VisitingHours.image()V
def wX1_image (x : Nat) (sh : List jH) (V : Nat → Nat → Int32) (R : Nat → Nat → Option Nat) (Q : (Nat → Nat → Int32) → (Nat → Nat → Option Nat) → Prop) : Prop :=
  (wX2_likens (x + 73) (x + 1) sh (vset V x 3 (1 : Int32)) R (fun V13 R13 => Q V13 R13))
theorem mX1_image {G : jG} {l : Launch} {d : Nat} (htr : l.stackTraces = false) (hdd : 5 ≤ d) {sh : List jH} {V : Nat → Nat → Int32} {R : Nat → Nat → Option Nat} {x : Nat} (hT : jReg shX1 sh x) {Q : (Nat → Nat → Int32) → (Nat → Nat → Option Nat) → Prop} (hw : wX1_image x sh V R Q) : JM G l MX1_image d 0 0 [.ref x] (mk sh V R) (jTv sh Q) jNo := by
  refine JM.intro (by decide) rfl htr (Nat.le_of_ble_eq_true rfl) ?_
  show J G l MX1_image d 0 0 0 [(0, .ref x)] [] (mk sh V R) _ _
  unfold wX1_image at hw
  refine J.aload_n 0 dX1_image_0 rfl ?_
  refine J.iconst (v := (1 : Int32)) dX1_image_1 (by decide) ?_
  refine fpX1_687 rfl hT dX1_image_2 jz1 ?_
  refine J.aload_n 0 dX1_image_5 rfl ?_
  refine fgX1_19 rfl hT dX1_image_6 ?_
  refine J.aload_n 0 dX1_image_9 rfl ?_
  refine fgX1_10 rfl hT dX1_image_10 ?_
  refine uX1_259 rfl htr (hT.sub 73 36 rfl) (hT.sub 1 36 rfl) dX1_image_13 (by omega) (Nat.le_of_ble_eq_true rfl) hw ?_
  clear hw
  intro V13 R13 hw
  refine J.pop dX1_image_16 rfl ?_
  exact J.vret rfl dX1_image_17 ⟨_, _, rfl, rfl, hw⟩
theorem fgX1_687 {G : jG} {l : Launch} {M : jM} {d c n pc : Nat} {lv : List (Nat × Value)} {st : List Value} {sh : List jH} {V : Nat → Nat → Int32} {R : Nat → Nat → Option Nat} {post : Option Value → List jC → Prop} {xp : String → List jC → Prop} {x : Nat} (hM : M.1.cls = RX1) (hT : jReg shX1 sh x) (hd : decode M.2.1 pc = .ok (.getfield 687, 3)) (kk : J G l M d c n (pc + 3) lv (.int (V x 3) :: st) (mk sh V R) post xp) : J G l M d c n pc lv (.ref x :: st) (mk sh V R) post xp := JV.getf (C := RX1) (T0 := TX1) (N := 16) 3 hd hT.1 (hT.at 0 rfl) rfl in_X1 (by decide) (by rw [hM]; exact q436) rfl rfl kk
abbrev MX1_back : jM := (yX1_back, cX1_back, 1, some .boolean, [])
-- VisitingHours.back()Z
def wX1_back (x : Nat) (sh : List jH) (V : Nat → Nat → Int32) (R : Nat → Nat → Option Nat) (c : Nat) (n : Nat) (Q : Int32 → List jH → (Nat → Nat → Int32) → (Nat → Nat → Option Nat) → Prop) : Prop :=
  ((¬ (V x 3) = 0 → (wX2_likens (x + 1) (x + 73) sh V R (fun V17 R17 => (∃ fs25 : List Value, (mk sh V17 R17)[(x + 148)]? = some (.inr (15, fs25)) ∧ wJ2_clear (mk sh V17 R17) (x + 148) (fun g25 => (∃ (sh25 : List jH) (V25 : Nat → Nat → Int32) (R25 : Nat → Nat → Option Nat), g25 = mk sh25 V25 R25 ∧ (jReg shX1 sh25 x ∧ Q (1 : Int32) sh25 V25 R25))))))) ∧ ((V x 3) = 0 → Q (0 : Int32) sh V R))
theorem mX1_back {G : jG} {l : Launch} {d : Nat} (htr : l.stackTraces = false) (hdd : 5 ≤ d) {sh : List jH} {V : Nat → Nat → Int32} {R : Nat → Nat → Option Nat} {c : Nat} {n : Nat} {x : Nat} (hT : jReg shX1 sh x) {Q : Int32 → List jH → (Nat → Nat → Int32) → (Nat → Nat → Option Nat) → Prop} (hw : wX1_back x sh V R c n Q) : JM G l MX1_back d c n [.ref x] (mk sh V R) (jSr Q) jNo := by
  refine JM.intro (by decide) rfl htr (Nat.le_of_ble_eq_true rfl) ?_
  show J G l MX1_back d c n 0 [(0, .ref x)] [] (mk sh V R) _ _
  unfold wX1_back at hw
  refine J.aload_n 0 dX1_back_0 rfl ?_
  refine fgX1_687 rfl hT dX1_back_1 ?_
  refine J.if_ne 9 dX1_back_4 (by decide) ⟨fun c4 => ?_, fun c4 => ?_⟩
  · obtain ⟨hw, -⟩ := hw
    specialize hw c4
    refine J.aload_n 0 dX1_back_9 rfl ?_
    refine fgX1_10 rfl hT dX1_back_10 ?_
    refine J.aload_n 0 dX1_back_13 rfl ?_
    refine fgX1_19 rfl hT dX1_back_14 ?_
    refine uX1_259 rfl htr (hT.sub 1 36 rfl) (hT.sub 73 36 rfl) dX1_back_17 (by omega) (Nat.le_of_ble_eq_true rfl) hw ?_
    clear hw
    intro V17 R17 hw
    refine J.pop dX1_back_20 rfl ?_
    refine J.aload_n 0 dX1_back_21 rfl ?_
    refine fgX1_42 rfl hT dX1_back_22 ?_
    obtain ⟨fs25, hk25, hw⟩ := hw
    refine nrX1_277 rfl htr hk25 dX1_back_25 (by omega) (Nat.le_of_ble_eq_true rfl) hw ?_
    clear hw
    intro g25 hw
    obtain ⟨sh25, V25, R25, rfl, hw⟩ := hw
    clear hT
    obtain ⟨hT, hw⟩ := hw
    refine J.iconst (v := (1 : Int32)) dX1_back_28 (by decide) ?_
    exact J.zret rfl rfl dX1_back_29 ⟨_, _, _, rfl, _, rfl, hw⟩
  · obtain ⟨-, hw⟩ := hw
    specialize hw c4
    refine J.iconst (v := (0 : Int32)) dX1_back_7 (by decide) ?_
    exact J.zret rfl rfl dX1_back_8 ⟨_, _, _, rfl, _, rfl, hw⟩
theorem fgX1_225 {G : jG} {l : Launch} {M : jM} {d c n pc : Nat} {lv : List (Nat × Value)} {st : List Value} {sh : List jH} {V : Nat → Nat → Int32} {R : Nat → Nat → Option Nat} {post : Option Value → List jC → Prop} {xp : String → List jC → Prop} {w : Nat} (hM : M.1.cls = RX1) (hT : jReg shX2 sh w) (hd : decode M.2.1 pc = .ok (.getfield 225, 3)) (kk : J G l M d c n (pc + 3) lv (.int (V w 3) :: st) (mk sh V R) post xp) : J G l M d c n pc lv (.ref w :: st) (mk sh V R) post xp := JV.getfN (C := RX2) (T0 := TX2) (N := 22) 3 hd hT.1 (hT.at 0 rfl) rfl in_X2 (by decide) (by rw [hM]; exact nw212) rfl rfl kk
theorem fgX1_227 {G : jG} {l : Launch} {M : jM} {d c n pc : Nat} {lv : List (Nat × Value)} {st : List Value} {sh : List jH} {V : Nat → Nat → Int32} {R : Nat → Nat → Option Nat} {post : Option Value → List jC → Prop} {xp : String → List jC → Prop} {w : Nat} (hM : M.1.cls = RX1) (hT : jReg shX2 sh w) (hd : decode M.2.1 pc = .ok (.getfield 227, 3)) (kk : J G l M d c n (pc + 3) lv (.int (V w 6) :: st) (mk sh V R) post xp) : J G l M d c n pc lv (.ref w :: st) (mk sh V R) post xp := JV.getfN (C := RX2) (T0 := TX2) (N := 22) 6 hd hT.1 (hT.at 0 rfl) rfl in_X2 (by decide) (by rw [hM]; exact nw218) rfl rfl kk
theorem fgX1_229 {G : jG} {l : Launch} {M : jM} {d c n pc : Nat} {lv : List (Nat × Value)} {st : List Value} {sh : List jH} {V : Nat → Nat → Int32} {R : Nat → Nat → Option Nat} {post : Option Value → List jC → Prop} {xp : String → List jC → Prop} {w : Nat} (hM : M.1.cls = RX1) (hT : jReg shX2 sh w) (hd : decode M.2.1 pc = .ok (.getfield 229, 3)) (kk : J G l M d c n (pc + 3) lv (.int (V w 4) :: st) (mk sh V R) post xp) : J G l M d c n pc lv (.ref w :: st) (mk sh V R) post xp := JV.getfN (C := RX2) (T0 := TX2) (N := 22) 4 hd hT.1 (hT.at 0 rfl) rfl in_X2 (by decide) (by rw [hM]; exact nw214) rfl rfl kk
theorem fgX1_231 {G : jG} {l : Launch} {M : jM} {d c n pc : Nat} {lv : List (Nat × Value)} {st : List Value} {sh : List jH} {V : Nat → Nat → Int32} {R : Nat → Nat → Option Nat} {post : Option Value → List jC → Prop} {xp : String → List jC → Prop} {w : Nat} (hM : M.1.cls = RX1) (hT : jReg shX2 sh w) (hd : decode M.2.1 pc = .ok (.getfield 231, 3)) (kk : J G l M d c n (pc + 3) lv (.int (V w 5) :: st) (mk sh V R) post xp) : J G l M d c n pc lv (.ref w :: st) (mk sh V R) post xp := JV.getfN (C := RX2) (T0 := TX2) (N := 22) 5 hd hT.1 (hT.at 0 rfl) rfl in_X2 (by decide) (by rw [hM]; exact nw216) rfl rfl kk
theorem fgX1_678 {G : jG} {l : Launch} {M : jM} {d c n pc : Nat} {lv : List (Nat × Value)} {st : List Value} {sh : List jH} {V : Nat → Nat → Int32} {R : Nat → Nat → Option Nat} {post : Option Value → List jC → Prop} {xp : String → List jC → Prop} {w : Nat} (hM : M.1.cls = RX1) (hT : jReg shX2 sh w) (hd : decode M.2.1 pc = .ok (.getfield 678, 3)) (kk : J G l M d c n (pc + 3) lv (.int (V w 7) :: st) (mk sh V R) post xp) : J G l M d c n pc lv (.ref w :: st) (mk sh V R) post xp := JV.getfN (C := RX2) (T0 := TX2) (N := 22) 7 hd hT.1 (hT.at 0 rfl) rfl in_X2 (by decide) (by rw [hM]; exact nw220) rfl rfl kk
abbrev MX1_count : jM := (yX1_count, cX1_count, 3, some .int, [])
theorem uX1_501 {G : jG} {l : Launch} {M : jM} {d c n pc : Nat} {lv : List (Nat × Value)} {rest : List Value} {post : Option Value → List jC → Prop} {xp : String → List jC → Prop} (hM : M.1.cls = RX1) (htr : l.stackTraces = false) {sh : List jH} {V : Nat → Nat → Int32} {R : Nat → Nat → Option Nat} {w : Nat} (hT : jReg shX2 sh w) {Q : Int32 → Prop} (hd : decode M.2.1 pc = .ok (.invokevirtual 501, 3)) (hdd : 0 + 1 ≤ d) (hw8 : (rest.map fun v => v.category).sum ≤ 8) (hw : wX2_gladness w V Q) (kk : ∀ r, Q r → J G l M d c n (pc + 3) lv (.int r :: rest) (mk sh V R) post xp) : J G l M d c n pc lv (.ref w :: rest) (mk sh V R) post xp := by
  exact J.callV (As := []) (hcw := by rw [hM]; exact lw_V q800 q801 q802 q145 q803) (mX2_gladness htr hT hw) hd rfl ⟨1, _, _, mk_at (hT.at 0 rfl), rfl, rfl, fun _ => rfl⟩ ⟨rfl, by decide, by decide, by show _ = some 0; decide +kernel⟩ hw8 ⟨hdd, by decide⟩ jcc0 (fun r9 g9 h9 => by obtain ⟨rfl, r, rfl, h⟩ := h9; exact kk r h) jNo.x
theorem uX1_690 {G : jG} {l : Launch} {M : jM} {d c n pc : Nat} {lv : List (Nat × Value)} {rest : List Value} {post : Option Value → List jC → Prop} {xp : String → List jC → Prop} (hM : M.1.cls = RX1) (htr : l.stackTraces = false) {sh : List jH} {V : Nat → Nat → Int32} {R : Nat → Nat → Option Nat} {w : Nat} (hT : jReg shX2 sh w) {Q : Int32 → Prop} (hd : decode M.2.1 pc = .ok (.invokevirtual 690, 3)) (hdd : 0 + 1 ≤ d) (hw8 : (rest.map fun v => v.category).sum ≤ 8) (hw : wX2_bookings w V Q) (kk : ∀ r, Q r → J G l M d c n (pc + 3) lv (.int r :: rest) (mk sh V R) post xp) : J G l M d c n pc lv (.ref w :: rest) (mk sh V R) post xp := by
  exact J.callV (As := []) (hcw := by rw [hM]; exact lw_V q796 q797 q798 q145 q799) (mX2_bookings htr hT hw) hd rfl ⟨1, _, _, mk_at (hT.at 0 rfl), rfl, rfl, fun _ => rfl⟩ ⟨rfl, by decide, by decide, by show _ = some 0; decide +kernel⟩ hw8 ⟨hdd, by decide⟩ jcc0 (fun r9 g9 h9 => by obtain ⟨rfl, r, rfl, h⟩ := h9; exact kk r h) jNo.x
-- VisitingHours.count(I)I
def wX1_count (x : Nat) (sh : List jH) (V : Nat → Nat → Int32) (R : Nat → Nat → Option Nat) (a1 : Int32) (Q : Int32 → Prop) : Prop :=
  ((a1 = (0 : Int32) → Q (V (x + 1) 1)) ∧ (¬ a1 = (0 : Int32) → ((a1 = (1 : Int32) → Q (V (x + 1) 2)) ∧ (¬ a1 = (1 : Int32) → ((a1 = (2 : Int32) → Q (V (x + 1) 0)) ∧ (¬ a1 = (2 : Int32) → ((a1 = (3 : Int32) → (∀ o84 : Option Nat, o84 = (R (x + 1) 20) → ((o84 = none → Q (-1 : Int32)) ∧ (∀ b87_1, o84 = some b87_1 → (∀ o95 : Option Nat, o95 = (R (x + 1) 20) → (∃ b98_2, o95 = some b98_2 ∧ (∃ fs98 : List Value, (mk sh V R)[b98_2]? = some (.inr (7, fs98)) ∧ jn ≤ b98_2 ∧ ∃ v98 : Option Nat, fs98[0]? = some (va_rf v98) ∧ (∃ b101_3, v98 = some b101_3 ∧ (∃ fs101 : List Value, (mk sh V R)[b101_3]? = some (.inr (15, fs101)) ∧ wJ2_size (mk sh V R) b101_3 (fun r101 => Q r101)))))))))) ∧ (¬ a1 = (3 : Int32) → ((a1 = (4 : Int32) → Q (V (x + 1) 6)) ∧ (¬ a1 = (4 : Int32) → ((a1 = (5 : Int32) → Q (V (x + 1) 3)) ∧ (¬ a1 = (5 : Int32) → ((a1 = (6 : Int32) → Q (V (x + 1) 4)) ∧ (¬ a1 = (6 : Int32) → ((a1 = (7 : Int32) → Q (V (x + 1) 5)) ∧ (¬ a1 = (7 : Int32) → ((a1 = (8 : Int32) → (wX2_bookings (x + 1) V (fun r126 => Q r126))) ∧ (¬ a1 = (8 : Int32) → ((a1 = (9 : Int32) → (wX2_gladness (x + 1) V (fun r131 => Q r131))) ∧ (¬ a1 = (9 : Int32) → ((a1 = (10 : Int32) → Q (V (x + 1) 7)) ∧ (¬ a1 = (10 : Int32) → ((a1 = (11 : Int32) → (∃ fs144 : List Value, (mk sh V R)[(x + 148)]? = some (.inr (15, fs144)) ∧ wJ2_size (mk sh V R) (x + 148) (fun r144 => Q r144))) ∧ (¬ a1 = (11 : Int32) → Q (-1 : Int32)))))))))))))))))))))))))
theorem mX1_count {G : jG} {l : Launch} {d : Nat} (htr : l.stackTraces = false) (hdd : 1 ≤ d) {sh : List jH} {V : Nat → Nat → Int32} {R : Nat → Nat → Option Nat} {x : Nat} (hT : jReg shX1 sh x) {a1 : Int32} {Q : Int32 → Prop} (hw : wX1_count x sh V R a1 Q) : JM G l MX1_count d 0 0 [.ref x, .int a1] (mk sh V R) (jRd (mk sh V R) Q) jNo := by
  refine JM.intro (by decide) rfl htr (Nat.le_of_ble_eq_true rfl) ?_
  show J G l MX1_count d 0 0 0 [(0, .ref x), (1, .int a1)] [] (mk sh V R) _ _
  unfold wX1_count at hw
  refine J.aload_n 0 dX1_count_0 rfl ?_
  refine fgX1_10 rfl hT dX1_count_1 ?_
  refine J.astore_n (lv' := [(2, .ref (x + 1)), (0, .ref x), (1, .int a1)]) dX1_count_4 (by decide) rfl ?_
  refine J.iload_n 2 dX1_count_5 rfl ?_
  by_cases c6_0 : a1 = (0 : Int32)
  · obtain ⟨hw, -⟩ := hw
    specialize hw c6_0
    refine J.tableIn 68 dX1_count_6 (by rw [c6_0]; decide) (by rw [c6_0]; decide) (by rw [c6_0]; rfl) (by decide) ?_
    refine J.aload_n 0 dX1_count_68 rfl ?_
    refine fgX1_132 rfl (hT.sub 1 36 rfl) dX1_count_69 ?_
    exact J.iret rfl dX1_count_72 ⟨rfl, _, rfl, hw⟩
  · obtain ⟨-, hw⟩ := hw
    specialize hw c6_0
    by_cases c6_1 : a1 = (1 : Int32)
    · obtain ⟨hw, -⟩ := hw
      specialize hw c6_1
      refine J.tableIn 73 dX1_count_6 (by rw [c6_1]; decide) (by rw [c6_1]; decide) (by rw [c6_1]; rfl) (by decide) ?_
      refine J.aload_n 0 dX1_count_73 rfl ?_
      refine fgX1_168 rfl (hT.sub 1 36 rfl) dX1_count_74 ?_
      exact J.iret rfl dX1_count_77 ⟨rfl, _, rfl, hw⟩
    · obtain ⟨-, hw⟩ := hw
      specialize hw c6_1
      by_cases c6_2 : a1 = (2 : Int32)
      · obtain ⟨hw, -⟩ := hw
        specialize hw c6_2
        refine J.tableIn 78 dX1_count_6 (by rw [c6_2]; decide) (by rw [c6_2]; decide) (by rw [c6_2]; rfl) (by decide) ?_
        refine J.aload_n 0 dX1_count_78 rfl ?_
        refine fgX1_271 rfl (hT.sub 1 36 rfl) dX1_count_79 ?_
        exact J.iret rfl dX1_count_82 ⟨rfl, _, rfl, hw⟩
      · obtain ⟨-, hw⟩ := hw
        specialize hw c6_2
        by_cases c6_3 : a1 = (3 : Int32)
        · obtain ⟨hw, -⟩ := hw
          specialize hw c6_3
          refine J.tableIn 83 dX1_count_6 (by rw [c6_3]; decide) (by rw [c6_3]; decide) (by rw [c6_3]; rfl) (by decide) ?_
          refine J.aload_n 0 dX1_count_83 rfl ?_
          refine fgX1_389 rfl (hT.sub 1 36 rfl) dX1_count_84 ?_
          refine J.nmq hw ?_
          clear hw
          intro o84 hw
          refine J.ifnonnullQ 94 dX1_count_87 (by decide) (fun b87_1 e9 => ?_) (fun e9 => ?_)
          · subst e9
            obtain ⟨-, hw⟩ := hw
            specialize hw _ rfl
            refine J.aload_n 0 dX1_count_94 rfl ?_
            refine fgX1_389 rfl (hT.sub 1 36 rfl) dX1_count_95 ?_
            refine J.nmq hw ?_
            clear hw
            intro o95 hw
            obtain ⟨b98_2, rfl, hw⟩ := hw
            obtain ⟨fs98, hk98, hn98, v98, hv98, hw⟩ := hw
            refine J.getfN (C := RX8) (T0 := TX8) (N := 1) 0 dX1_count_98 hn98 hk98 rfl in_X8 (by decide) nw1405 hv98 ?_
            obtain ⟨b101_3, rfl, hw⟩ := hw
            obtain ⟨fs101, hk101, hw⟩ := hw
            refine nrX1_378 rfl htr hk101 dX1_count_101 (by omega) (Nat.le_of_ble_eq_true rfl) hw ?_
            clear hw
            intro r101 hw
            exact J.iret rfl dX1_count_104 ⟨rfl, _, rfl, hw⟩
          · subst e9
            obtain ⟨hw, -⟩ := hw
            specialize hw rfl
            refine J.iconst (v := (-1 : Int32)) dX1_count_90 (by decide) ?_
            refine J.goto 104 dX1_count_91 (by decide) ?_
            exact J.iret rfl dX1_count_104 ⟨rfl, _, rfl, hw⟩
        · obtain ⟨-, hw⟩ := hw
          specialize hw c6_3
          by_cases c6_4 : a1 = (4 : Int32)
          · obtain ⟨hw, -⟩ := hw
            specialize hw c6_4
            refine J.tableIn 105 dX1_count_6 (by rw [c6_4]; decide) (by rw [c6_4]; decide) (by rw [c6_4]; rfl) (by decide) ?_
            refine J.aload_n 0 dX1_count_105 rfl ?_
            refine fgX1_227 rfl (hT.sub 1 36 rfl) dX1_count_106 ?_
            exact J.iret rfl dX1_count_109 ⟨rfl, _, rfl, hw⟩
          · obtain ⟨-, hw⟩ := hw
            specialize hw c6_4
            by_cases c6_5 : a1 = (5 : Int32)
            · obtain ⟨hw, -⟩ := hw
              specialize hw c6_5
              refine J.tableIn 110 dX1_count_6 (by rw [c6_5]; decide) (by rw [c6_5]; decide) (by rw [c6_5]; rfl) (by decide) ?_
              refine J.aload_n 0 dX1_count_110 rfl ?_
              refine fgX1_225 rfl (hT.sub 1 36 rfl) dX1_count_111 ?_
              exact J.iret rfl dX1_count_114 ⟨rfl, _, rfl, hw⟩
            · obtain ⟨-, hw⟩ := hw
              specialize hw c6_5
              by_cases c6_6 : a1 = (6 : Int32)
              · obtain ⟨hw, -⟩ := hw
                specialize hw c6_6
                refine J.tableIn 115 dX1_count_6 (by rw [c6_6]; decide) (by rw [c6_6]; decide) (by rw [c6_6]; rfl) (by decide) ?_
                refine J.aload_n 0 dX1_count_115 rfl ?_
                refine fgX1_229 rfl (hT.sub 1 36 rfl) dX1_count_116 ?_
                exact J.iret rfl dX1_count_119 ⟨rfl, _, rfl, hw⟩
              · obtain ⟨-, hw⟩ := hw
                specialize hw c6_6
                by_cases c6_7 : a1 = (7 : Int32)
                · obtain ⟨hw, -⟩ := hw
                  specialize hw c6_7
                  refine J.tableIn 120 dX1_count_6 (by rw [c6_7]; decide) (by rw [c6_7]; decide) (by rw [c6_7]; rfl) (by decide) ?_
                  refine J.aload_n 0 dX1_count_120 rfl ?_
                  refine fgX1_231 rfl (hT.sub 1 36 rfl) dX1_count_121 ?_
                  exact J.iret rfl dX1_count_124 ⟨rfl, _, rfl, hw⟩
                · obtain ⟨-, hw⟩ := hw
                  specialize hw c6_7
                  by_cases c6_8 : a1 = (8 : Int32)
                  · obtain ⟨hw, -⟩ := hw
                    specialize hw c6_8
                    refine J.tableIn 125 dX1_count_6 (by rw [c6_8]; decide) (by rw [c6_8]; decide) (by rw [c6_8]; rfl) (by decide) ?_
                    refine J.aload_n 0 dX1_count_125 rfl ?_
                    refine uX1_690 rfl htr (hT.sub 1 36 rfl) dX1_count_126 (by omega) (Nat.le_of_ble_eq_true rfl) hw ?_
                    clear hw
                    intro r126 hw
                    exact J.iret rfl dX1_count_129 ⟨rfl, _, rfl, hw⟩
                  · obtain ⟨-, hw⟩ := hw
                    specialize hw c6_8
                    by_cases c6_9 : a1 = (9 : Int32)
                    · obtain ⟨hw, -⟩ := hw
                      specialize hw c6_9
                      refine J.tableIn 130 dX1_count_6 (by rw [c6_9]; decide) (by rw [c6_9]; decide) (by rw [c6_9]; rfl) (by decide) ?_
                      refine J.aload_n 0 dX1_count_130 rfl ?_
                      refine uX1_501 rfl htr (hT.sub 1 36 rfl) dX1_count_131 (by omega) (Nat.le_of_ble_eq_true rfl) hw ?_
                      clear hw
                      intro r131 hw
                      exact J.iret rfl dX1_count_134 ⟨rfl, _, rfl, hw⟩
                    · obtain ⟨-, hw⟩ := hw
                      specialize hw c6_9
                      by_cases c6_10 : a1 = (10 : Int32)
                      · obtain ⟨hw, -⟩ := hw
                        specialize hw c6_10
                        refine J.tableIn 135 dX1_count_6 (by rw [c6_10]; decide) (by rw [c6_10]; decide) (by rw [c6_10]; rfl) (by decide) ?_
                        refine J.aload_n 0 dX1_count_135 rfl ?_
                        refine fgX1_678 rfl (hT.sub 1 36 rfl) dX1_count_136 ?_
                        exact J.iret rfl dX1_count_139 ⟨rfl, _, rfl, hw⟩
                      · obtain ⟨-, hw⟩ := hw
                        specialize hw c6_10
                        by_cases c6_11 : a1 = (11 : Int32)
                        · obtain ⟨hw, -⟩ := hw
                          specialize hw c6_11
                          refine J.tableIn 140 dX1_count_6 (by rw [c6_11]; decide) (by rw [c6_11]; decide) (by rw [c6_11]; rfl) (by decide) ?_
                          refine J.aload_n 1 dX1_count_140 rfl ?_
                          refine fgX1_42 rfl hT dX1_count_141 ?_
                          obtain ⟨fs144, hk144, hw⟩ := hw
                          refine nrX1_378 rfl htr hk144 dX1_count_144 (by omega) (Nat.le_of_ble_eq_true rfl) hw ?_
                          clear hw
                          intro r144 hw
                          exact J.iret rfl dX1_count_147 ⟨rfl, _, rfl, hw⟩
                        · obtain ⟨-, hw⟩ := hw
                          specialize hw c6_11
                          refine J.tableOut 148 dX1_count_6 (jsw12 c6_0 c6_1 c6_2 c6_3 c6_4 c6_5 c6_6 c6_7 c6_8 c6_9 c6_10 c6_11) (by decide) ?_
                          refine J.iconst (v := (-1 : Int32)) dX1_count_148 (by decide) ?_
                          exact J.iret rfl dX1_count_149 ⟨rfl, _, rfl, hw⟩
abbrev MX1_lets : jM := (yX1_lets, cX1_lets, 4, some .boolean, [])
theorem uX1_522 {G : jG} {l : Launch} {M : jM} {d c n pc : Nat} {lv : List (Nat × Value)} {rest : List Value} {post : Option Value → List jC → Prop} {xp : String → List jC → Prop} (hM : M.1.cls = RX1) (htr : l.stackTraces = false) {sh : List jH} {V : Nat → Nat → Int32} {R : Nat → Nat → Option Nat} {x : Nat} (hT : jReg shX1 sh x) {a1 : Int32} {a2 : Int32} {a3 : Int32} {Q : Prop} (hd : decode M.2.1 pc = .ok (.invokevirtual 522, 3)) (hdd : 10 + 1 ≤ d) (hw8 : (rest.map fun v => v.category).sum ≤ 8) (hw : wX1_allAt x V a1 a2 a3 Q (fun _ => False)) (kk : Q → J G l M d c n (pc + 3) lv rest (mk sh V R) post xp) : J G l M d c n pc lv (.int a3 :: .int a2 :: .int a1 :: .ref x :: rest) (mk sh V R) post xp := by
  exact J.callV (c' := 0) (n' := 0) (As := [.int a1, .int a2, .int a3]) (hcw := by rw [hM]; exact lw_V q1748 q1750 qs45 q144 q1751) (mX1_allAt htr hT hw (Or.inl (fun _ h => h))) hd rfl ⟨0, _, _, mk_at (hT.at 0 rfl), rfl, rfl, fun _ => rfl⟩ ⟨rfl, by decide, by decide, by show _ = some 3; decide +kernel⟩ hw8 ⟨hdd, by decide⟩ jcc0 (fun r9 g9 h9 => by obtain ⟨rfl, rfl, h⟩ := h9; exact kk h) (fun E9 g9 h9 => by obtain ⟨_, h⟩ := h9; exact h.elim)
theorem uxX1_522 {G : jG} {l : Launch} {M : jM} {d c n pc : Nat} {lv : List (Nat × Value)} {rest : List Value} {post : Option Value → List jC → Prop} {xp : String → List jC → Prop} (hM : M.1.cls = RX1) (htr : l.stackTraces = false) {sh : List jH} {V : Nat → Nat → Int32} {R : Nat → Nat → Option Nat} {x : Nat} (hT : jReg shX1 sh x) {a1 : Int32} {a2 : Int32} {a3 : Int32} {X : String → Prop} (hd : decode M.2.1 pc = .ok (.invokevirtual 522, 3)) (hdd : 10 + 1 ≤ d) (hw8 : (rest.map fun v => v.category).sum ≤ 8) (hw : wX1_allAt x V a1 a2 a3 False X) (hb : (∀ E, ¬ X E) ∨ 1 ≤ c ∧ 6 ≤ n) (kx : ∀ E, X E → JX G l M d 0 0 pc lv E (mk sh V R) post xp) : J G l M d c n pc lv (.int a3 :: .int a2 :: .int a1 :: .ref x :: rest) (mk sh V R) post xp := by
  exact J.callV (c := 0) (n := 0) (c' := c) (n' := n) (As := [.int a1, .int a2, .int a3]) (hcw := by rw [hM]; exact lw_V q1748 q1750 qs45 q144 q1751) (mX1_allAt htr hT hw hb) hd rfl ⟨0, _, _, mk_at (hT.at 0 rfl), rfl, rfl, fun _ => rfl⟩ ⟨rfl, by decide, by decide, by show _ = some 3; decide +kernel⟩ hw8 ⟨hdd, by decide⟩ ⟨by omega, by omega⟩ (fun r9 g9 h9 => by obtain ⟨_, _, h⟩ := h9; exact h.elim) (fun E9 g9 h9 => by obtain ⟨rfl, h⟩ := h9; exact kx E9 h)
-- VisitingHours.lets(III)Z
def wX1_lets (x : Nat) (sh : List jH) (R : Nat → Nat → Option Nat) (V : Nat → Nat → Int32) (a1 : Int32) (a2 : Int32) (a3 : Int32) (Q : Int32 → (Nat → Nat → Int32) → Prop) (X : String → (Nat → Nat → Int32) → Prop) : Prop :=
  ((wX1_allAt x V a1 a2 a3 ((wX1_letsIn x (x + 1) sh R V a1 a2 a3 (fun r15 V15 => (jz r15 ∧ Q r15 V15)))) (fun _ => False)) ∨ (wX1_allAt x V a1 a2 a3 False (fun E9 => X E9 V)))
theorem mX1_lets {G : jG} {l : Launch} {d : Nat} {c n : Nat} (htr : l.stackTraces = false) (hdd : 42 ≤ d) {sh : List jH} {R : Nat → Nat → Option Nat} {V : Nat → Nat → Int32} {x : Nat} (hT : jReg shX1 sh x) {a1 : Int32} {a2 : Int32} {a3 : Int32} {Q : Int32 → (Nat → Nat → Int32) → Prop} {X : String → (Nat → Nat → Int32) → Prop} (hw : wX1_lets x sh R V a1 a2 a3 Q X) (hb : (∀ E V', ¬ X E V') ∨ 1 ≤ c ∧ 6 ≤ n) : JM G l MX1_lets d c n [.ref x, .int a1, .int a2, .int a3] (mk sh V R) (jWr sh R Q) (jXw sh R X) := by
  refine JM.intro (by decide) rfl htr (Nat.le_of_ble_eq_true rfl) ?_
  show J G l MX1_lets d c n 0 [(0, .ref x), (1, .int a1), (2, .int a2), (3, .int a3)] [] (mk sh V R) _ _
  unfold wX1_lets at hw
  refine J.aload_n 0 dX1_lets_0 rfl ?_
  refine J.iload_n 1 dX1_lets_1 rfl ?_
  refine J.iload_n 2 dX1_lets_2 rfl ?_
  refine J.iload_n 3 dX1_lets_3 rfl ?_
  rcases hw with hw | hw
  rotate_left
  · refine uxX1_522 rfl htr hT dX1_lets_4 (by omega) (Nat.le_of_ble_eq_true rfl) hw (hb.imp (fun h9 _ h8 => h9 _ _ h8) id) ?_
    exact fun E9 h9 => JX.out (by rfl) ⟨_, rfl, h9⟩
  refine uX1_522 rfl htr hT dX1_lets_4 (by omega) (Nat.le_of_ble_eq_true rfl) hw ?_
  clear hw
  intro hw
  refine J.aload_n 0 dX1_lets_7 rfl ?_
  refine J.aload_n 0 dX1_lets_8 rfl ?_
  refine fgX1_10 rfl hT dX1_lets_9 ?_
  refine J.iload_n 1 dX1_lets_12 rfl ?_
  refine J.iload_n 2 dX1_lets_13 rfl ?_
  refine J.iload_n 3 dX1_lets_14 rfl ?_
  refine uX1_435 rfl htr hT (hT.sub 1 36 rfl) dX1_lets_15 (by omega) (Nat.le_of_ble_eq_true rfl) hw ?_
  clear hw
  intro r15 V15 hw
  exact J.zret rfl (jz_nar hw.1) dX1_lets_18 ⟨_, rfl, _, rfl, hw.2⟩
abbrev MX1_joy : jM := (yX1_joy, cX1_joy, 4, some .int, [])
-- VisitingHours.joy(III)I
def wX1_joy (x : Nat) (sh : List jH) (R : Nat → Nat → Option Nat) (V : Nat → Nat → Int32) (a1 : Int32) (a2 : Int32) (a3 : Int32) (Q : Int32 → (Nat → Nat → Int32) → Prop) (X : String → (Nat → Nat → Int32) → Prop) : Prop :=
  ((wX1_allAt x V a1 a2 a3 ((wX1_joyBy x (x + 1) sh R V a1 a2 a3 (fun r15 V15 => Q r15 V15))) (fun _ => False)) ∨ (wX1_allAt x V a1 a2 a3 False (fun E9 => X E9 V)))
theorem mX1_joy {G : jG} {l : Launch} {d : Nat} {c n : Nat} (htr : l.stackTraces = false) (hdd : 42 ≤ d) {sh : List jH} {R : Nat → Nat → Option Nat} {V : Nat → Nat → Int32} {x : Nat} (hT : jReg shX1 sh x) {a1 : Int32} {a2 : Int32} {a3 : Int32} {Q : Int32 → (Nat → Nat → Int32) → Prop} {X : String → (Nat → Nat → Int32) → Prop} (hw : wX1_joy x sh R V a1 a2 a3 Q X) (hb : (∀ E V', ¬ X E V') ∨ 1 ≤ c ∧ 6 ≤ n) : JM G l MX1_joy d c n [.ref x, .int a1, .int a2, .int a3] (mk sh V R) (jWr sh R Q) (jXw sh R X) := by
  refine JM.intro (by decide) rfl htr (Nat.le_of_ble_eq_true rfl) ?_
  show J G l MX1_joy d c n 0 [(0, .ref x), (1, .int a1), (2, .int a2), (3, .int a3)] [] (mk sh V R) _ _
  unfold wX1_joy at hw
  refine J.aload_n 0 dX1_joy_0 rfl ?_
  refine J.iload_n 1 dX1_joy_1 rfl ?_
  refine J.iload_n 2 dX1_joy_2 rfl ?_
  refine J.iload_n 3 dX1_joy_3 rfl ?_
  rcases hw with hw | hw
  rotate_left
  · refine uxX1_522 rfl htr hT dX1_joy_4 (by omega) (Nat.le_of_ble_eq_true rfl) hw (hb.imp (fun h9 _ h8 => h9 _ _ h8) id) ?_
    exact fun E9 h9 => JX.out (by rfl) ⟨_, rfl, h9⟩
  refine uX1_522 rfl htr hT dX1_joy_4 (by omega) (Nat.le_of_ble_eq_true rfl) hw ?_
  clear hw
  intro hw
  refine J.aload_n 0 dX1_joy_7 rfl ?_
  refine J.aload_n 0 dX1_joy_8 rfl ?_
  refine fgX1_10 rfl hT dX1_joy_9 ?_
  refine J.iload_n 1 dX1_joy_12 rfl ?_
  refine J.iload_n 2 dX1_joy_13 rfl ?_
  refine J.iload_n 3 dX1_joy_14 rfl ?_
  refine uX1_443 rfl htr hT (hT.sub 1 36 rfl) dX1_joy_15 (by omega) (Nat.le_of_ble_eq_true rfl) hw ?_
  clear hw
  intro r15 V15 hw
  exact J.iret rfl dX1_joy_18 ⟨_, rfl, _, rfl, hw⟩
theorem niX1_9 {G : jG} {l : Launch} {M : jM} {d c n pc : Nat} {lv : List (Nat × Value)} {rest : List Value} {g : List jC} {post : Option Value → List jC → Prop} {xp : String → List jC → Prop} (hM : M.1.cls = RX1) (htr : l.stackTraces = false) {h : Nat} {c1 n1 cq nq : Nat} {Q : List jC → Prop} (hd : decode M.2.1 pc = .ok (.invokespecial 9, 3)) (hdd : 1 + 1 ≤ d) (hw8 : (rest.map fun v => v.category).sum ≤ 8) (hw : wX2_init g c1 n1 h Q) (hcc : c1 + c ≤ cq ∧ n1 + n ≤ nq) (kk : ∀ g', Q g' → J G l M d c n (pc + 3) lv rest g' post xp) : J G l M d cq nq pc lv (.ref h :: rest) g post xp :=
  J.callIN (M' := MX2_init) (As := []) (hcw := lw_meth q199) (hlk := by rw [hM]; exact nw197) (hini := q145) (hin := q198) (hret := rfl) (mX2_init htr (Nat.le_refl _) hw) hd rfl rfl ⟨by decide, by decide, by show _ = some 0; decide +kernel⟩ hw8 ⟨hdd, by decide⟩ hcc (fun r9 g9 h9 => by obtain ⟨rfl, h⟩ := h9; exact kk g9 h) jNo.x
abbrev MX1_remembers : jM := (yX1_remembers, cX1_remembers, 2, none, [])
-- VisitingHours.remembers()V
def wX1_remembers_33 (x : Nat) (Q : List jH → (Nat → Nat → Int32) → (Nat → Nat → Option Nat) → Prop) (sh : List jH) (V : Nat → Nat → Int32) (R : Nat → Nat → Option Nat) (c : Nat) (n : Nat) (s0 : Nat) : Prop :=
  (jReg shX2 sh s0 ∧ (wX2_likens s0 (x + 1) sh V R (fun V43 R43 => (∃ fs46 : List Value, (mk sh V43 R43)[(x + 148)]? = some (.inr (15, fs46)) ∧ (∃ c146 n146 c246 n246 : Nat, c146 + c246 ≤ c ∧ n146 + n246 ≤ n ∧ wJ2_add (mk sh V43 R43) c146 n146 (x + 148) s0 (fun r46 g46 => (∃ (sh46 : List jH) (V46 : Nat → Nat → Int32) (R46 : Nat → Nat → Option Nat), g46 = mk sh46 V46 R46 ∧ (jReg shX1 sh46 x ∧ Q sh46 V46 R46))))))))
theorem rX1_remembers_33 {G : jG} {l : Launch} {d : Nat} (htr : l.stackTraces = false) (hdd : 8 ≤ d) {x : Nat} {Q : List jH → (Nat → Nat → Int32) → (Nat → Nat → Option Nat) → Prop} {sh : List jH} {V : Nat → Nat → Int32} {R : Nat → Nat → Option Nat} {c : Nat} {n : Nat} {s0 : Nat} (hT : jReg shX1 sh x) (hw : wX1_remembers_33 x Q sh V R c n s0) : J G l MX1_remembers d c n 33 [(0, .ref x)] [.ref s0] (mk sh V R) (jSv Q) jNo := by
  unfold wX1_remembers_33 at hw
  refine J.astore_n (lv' := [(1, .ref s0), (0, .ref x)]) dX1_remembers_33 (by decide) rfl ?_
  refine J.aload_n 1 dX1_remembers_34 rfl ?_
  refine fgX1_42 rfl hT dX1_remembers_35 ?_
  refine J.aload_n 0 dX1_remembers_38 rfl ?_
  refine J.aload_n 1 dX1_remembers_39 rfl ?_
  refine fgX1_10 rfl hT dX1_remembers_40 ?_
  obtain ⟨hq43_s0, hw⟩ := hw
  refine uX1_259 rfl htr hq43_s0 (hT.sub 1 36 rfl) dX1_remembers_43 (by omega) (Nat.le_of_ble_eq_true rfl) hw ?_
  clear hw
  intro V43 R43 hw
  obtain ⟨fs46, hk46, hw⟩ := hw
  obtain ⟨c146, n146, c246, n246, hc46, hd46, hw⟩ := hw
  refine nrX1_304 rfl htr hk46 dX1_remembers_46 (by omega) (Nat.le_of_ble_eq_true rfl) hw ⟨hc46, hd46⟩ ?_
  clear hw
  intro r46 g46 hw
  obtain ⟨sh46, V46, R46, rfl, hw⟩ := hw
  clear hT
  obtain ⟨hT, hw⟩ := hw
  refine J.pop dX1_remembers_49 rfl ?_
  exact J.vret rfl dX1_remembers_50 ⟨_, _, _, rfl, rfl, hw⟩
def wX1_remembers (x : Nat) (sh : List jH) (V : Nat → Nat → Int32) (R : Nat → Nat → Option Nat) (c : Nat) (n : Nat) (Q : List jH → (Nat → Nat → Int32) → (Nat → Nat → Option Nat) → Prop) : Prop :=
  (∃ fs4 : List Value, (mk sh V R)[(x + 148)]? = some (.inr (15, fs4)) ∧ wJ2_size (mk sh V R) (x + 148) (fun r4 => ((¬ r4 = (12 : Int32) → (∃ c26 n26, c = c26 + 1 ∧ n = n26 + 22 ∧ (∀ q26, q26 = sh.length → (∀ sh26 : List jH, sh26 = sh ++ [jF (.inr (1, [.int 0, .int 0, .int 0, .int 0, .int 0, .int 0, .int 0, .int 0, .int 0, .null, .null, .null, .null, .null, .null, .null, .null, .null, .null, .null, .null, .int 0]))] → (∃ c130 n130 c230 n230 : Nat, c130 + c230 ≤ c26 ∧ n130 + n230 ≤ n26 ∧ wX2_init (mk sh26 V R) c130 n130 q26 (fun g30 => (∃ (sh30 : List jH) (V30 : Nat → Nat → Int32) (R30 : Nat → Nat → Option Nat), g30 = mk sh30 V30 R30 ∧ (jReg shX1 sh30 x ∧ wX1_remembers_33 x Q sh30 V30 R30 c230 n230 q26)))))))) ∧ (r4 = (12 : Int32) → (∃ fs17 : List Value, (mk sh V R)[(x + 148)]? = some (.inr (15, fs17)) ∧ wJ2_remove (mk sh V R) (x + 148) (0 : Int32) (fun r17 g17 => (∃ (sh17 : List jH) (V17 : Nat → Nat → Int32) (R17 : Nat → Nat → Option Nat), g17 = mk sh17 V17 R17 ∧ (jReg shX1 sh17 x ∧ (∃ b20_1, r17 = some b20_1 ∧ (∃ fs20 : List Value, (mk sh17 V17 R17)[b20_1]? = some (.inr (1, fs20)) ∧ jn ≤ b20_1 ∧ wX1_remembers_33 x Q sh17 V17 R17 c n b20_1))))))))))
theorem mX1_remembers {G : jG} {l : Launch} {d : Nat} (htr : l.stackTraces = false) (hdd : 8 ≤ d) {sh : List jH} {V : Nat → Nat → Int32} {R : Nat → Nat → Option Nat} {c : Nat} {n : Nat} {x : Nat} (hT : jReg shX1 sh x) {Q : List jH → (Nat → Nat → Int32) → (Nat → Nat → Option Nat) → Prop} (hw : wX1_remembers x sh V R c n Q) : JM G l MX1_remembers d c n [.ref x] (mk sh V R) (jSv Q) jNo := by
  refine JM.intro (by decide) rfl htr (Nat.le_of_ble_eq_true rfl) ?_
  show J G l MX1_remembers d c n 0 [(0, .ref x)] [] (mk sh V R) _ _
  unfold wX1_remembers at hw
  refine J.aload_n 0 dX1_remembers_0 rfl ?_
  refine fgX1_42 rfl hT dX1_remembers_1 ?_
  obtain ⟨fs4, hk4, hw⟩ := hw
  refine nrX1_378 rfl htr hk4 dX1_remembers_4 (by omega) (Nat.le_of_ble_eq_true rfl) hw ?_
  clear hw
  intro r4 hw
  refine J.bipush (v := (12 : Int32)) dX1_remembers_7 (by decide) ?_
  refine J.icmp_ne 26 dX1_remembers_9 (by decide) ⟨fun c9 => ?_, fun c9 => ?_⟩
  · obtain ⟨hw, -⟩ := hw
    specialize hw c9
    obtain ⟨c26, n26, rfl, rfl, hw⟩ := hw
    refine J.new (C := RX2) (T0 := TX2) (N := 22) [.int 0, .int 0, .int 0, .int 0, .int 0, .int 0, .int 0, .int 0, .int 0, .null, .null, .null, .null, .null, .null, .null, .null, .null, .null, .null, .null, .int 0] dX1_remembers_26 (ci := 1) rfl in_X2 tyX2 tyX2_ok q195 q196 q145 rfl (fun _ => rfl) ?_
    rw [mk_len]
    refine J.nmr hw ?_
    clear hw
    intro q26 hw
    rw [mk_pushF]
    refine J.nmsE (fun sh26 e26 => ?_)
    specialize hw sh26 e26
    replace hT := jReg.apE hT e26
    refine J.dup dX1_remembers_29 rfl ?_
    obtain ⟨c130, n130, c230, n230, hc30, hd30, hw⟩ := hw
    refine niX1_9 rfl htr dX1_remembers_30 (by omega) (Nat.le_of_ble_eq_true rfl) hw ⟨hc30, hd30⟩ ?_
    clear hw
    intro g30 hw
    obtain ⟨sh30, V30, R30, rfl, hw⟩ := hw
    clear hT
    obtain ⟨hT, hw⟩ := hw
    exact (rX1_remembers_33 htr hdd hT hw)
  · obtain ⟨-, hw⟩ := hw
    specialize hw c9
    refine J.aload_n 0 dX1_remembers_12 rfl ?_
    refine fgX1_42 rfl hT dX1_remembers_13 ?_
    refine J.iconst (v := (0 : Int32)) dX1_remembers_16 (by decide) ?_
    obtain ⟨fs17, hk17, hw⟩ := hw
    refine nrX1_526 rfl htr hk17 dX1_remembers_17 (by omega) (Nat.le_of_ble_eq_true rfl) hw ?_
    clear hw
    intro r17 g17 hw
    obtain ⟨sh17, V17, R17, rfl, hw⟩ := hw
    clear hT
    obtain ⟨hT, hw⟩ := hw
    obtain ⟨b20_1, rfl, hw⟩ := hw
    obtain ⟨fs20, hk20, hn20, hw⟩ := hw
    refine J.castS dX1_remembers_20 hn20 hk20 rfl q195 ?_
    refine J.goto 33 dX1_remembers_23 (by decide) ?_
    exact (rX1_remembers_33 htr hdd hT hw)
abbrev MX1_book : jM := (yX1_book, cX1_book, 5, some .int, [])
theorem uX1_516 {G : jG} {l : Launch} {M : jM} {d c n pc : Nat} {lv : List (Nat × Value)} {rest : List Value} {post : Option Value → List jC → Prop} {xp : String → List jC → Prop} (hM : M.1.cls = RX1) (htr : l.stackTraces = false) {sh : List jH} {V : Nat → Nat → Int32} {R : Nat → Nat → Option Nat} {w : Nat} (hT : jReg shX2 sh w) {a1 : Int32} {Q : Int32 → Prop} (hd : decode M.2.1 pc = .ok (.invokevirtual 516, 3)) (hdd : 0 + 1 ≤ d) (hw8 : (rest.map fun v => v.category).sum ≤ 8) (hw : wX2_busy w V a1 Q) (kk : ∀ r, Q r → J G l M d c n (pc + 3) lv (.int r :: rest) (mk sh V R) post xp) : J G l M d c n pc lv (.int a1 :: .ref w :: rest) (mk sh V R) post xp := by
  exact J.callV (As := [.int a1]) (hcw := by rw [hM]; exact lw_V q1720 q1721 q1722 q145 q1723) (mX2_busy htr hT hw) hd rfl ⟨1, _, _, mk_at (hT.at 0 rfl), rfl, rfl, fun _ => rfl⟩ ⟨rfl, by decide, by decide, by show _ = some 1; decide +kernel⟩ hw8 ⟨hdd, by decide⟩ jcc0 (fun r9 g9 h9 => by obtain ⟨rfl, r, rfl, h⟩ := h9; exact kk r h) jNo.x
theorem uX1_530 {G : jG} {l : Launch} {M : jM} {d c n pc : Nat} {lv : List (Nat × Value)} {rest : List Value} {post : Option Value → List jC → Prop} {xp : String → List jC → Prop} (hM : M.1.cls = RX1) (htr : l.stackTraces = false) {sh : List jH} {V : Nat → Nat → Int32} {R : Nat → Nat → Option Nat} {a1 : Int32} {Q : Prop} (hd : decode M.2.1 pc = .ok (.invokestatic 530, 3)) (hdd : 8 + 1 ≤ d) (hw8 : (rest.map fun v => v.category).sum ≤ 8) (hw : wX1_may a1 Q (fun _ => False)) (kk : Q → J G l M d c n (pc + 3) lv rest (mk sh V R) post xp) : J G l M d c n pc lv (.int a1 :: rest) (mk sh V R) post xp := by
  exact J.callS (c' := 0) (n' := 0) (As := [.int a1]) (hcw := by rw [hM]; exact lw_S q1774 q1775 q144 q1776) (mX1_may htr hw (Or.inl (fun _ h => h))) hd rfl ⟨by decide, by decide, by show _ = some 1; decide +kernel⟩ hw8 ⟨hdd, by decide⟩ jcc0 (fun r9 g9 h9 => by obtain ⟨rfl, rfl, h⟩ := h9; exact kk h) (fun E9 g9 h9 => by obtain ⟨_, h⟩ := h9; exact h.elim)
theorem uxX1_530 {G : jG} {l : Launch} {M : jM} {d c n pc : Nat} {lv : List (Nat × Value)} {rest : List Value} {post : Option Value → List jC → Prop} {xp : String → List jC → Prop} (hM : M.1.cls = RX1) (htr : l.stackTraces = false) {sh : List jH} {V : Nat → Nat → Int32} {R : Nat → Nat → Option Nat} {a1 : Int32} {X : String → Prop} (hd : decode M.2.1 pc = .ok (.invokestatic 530, 3)) (hdd : 8 + 1 ≤ d) (hw8 : (rest.map fun v => v.category).sum ≤ 8) (hw : wX1_may a1 False X) (hb : (∀ E, ¬ X E) ∨ 1 ≤ c ∧ 6 ≤ n) (kx : ∀ E, X E → JX G l M d 0 0 pc lv E (mk sh V R) post xp) : J G l M d c n pc lv (.int a1 :: rest) (mk sh V R) post xp := by
  exact J.callS (c := 0) (n := 0) (c' := c) (n' := n) (As := [.int a1]) (hcw := by rw [hM]; exact lw_S q1774 q1775 q144 q1776) (mX1_may htr hw hb) hd rfl ⟨by decide, by decide, by show _ = some 1; decide +kernel⟩ hw8 ⟨hdd, by decide⟩ ⟨by omega, by omega⟩ (fun r9 g9 h9 => by obtain ⟨_, _, h⟩ := h9; exact h.elim) (fun E9 g9 h9 => by obtain ⟨rfl, h⟩ := h9; exact kx E9 h)
theorem uX1_533 {G : jG} {l : Launch} {M : jM} {d c n pc : Nat} {lv : List (Nat × Value)} {rest : List Value} {post : Option Value → List jC → Prop} {xp : String → List jC → Prop} (hM : M.1.cls = RX1) (htr : l.stackTraces = false) {sh : List jH} {V : Nat → Nat → Int32} {R : Nat → Nat → Option Nat} {x : Nat} (hT : jReg shX1 sh x) {c1 n1 cq nq : Nat} {Q : List jH → (Nat → Nat → Int32) → (Nat → Nat → Option Nat) → Prop} (hd : decode M.2.1 pc = .ok (.invokevirtual 533, 3)) (hdd : 8 + 1 ≤ d) (hw8 : (rest.map fun v => v.category).sum ≤ 8) (hw : wX1_remembers x sh V R c1 n1 Q) (hcc : c1 + c ≤ cq ∧ n1 + n ≤ nq) (kk : ∀ sh' V' R', Q sh' V' R' → J G l M d c n (pc + 3) lv rest (mk sh' V' R') post xp) : J G l M d cq nq pc lv (.ref x :: rest) (mk sh V R) post xp := by
  exact J.callV (As := []) (hcw := by rw [hM]; exact lw_V q1792 q1794 qs46 q144 q1795) (mX1_remembers htr (Nat.le_refl _) hT hw) hd rfl ⟨0, _, _, mk_at (hT.at 0 rfl), rfl, rfl, fun _ => rfl⟩ ⟨rfl, by decide, by decide, by show _ = some 0; decide +kernel⟩ hw8 ⟨hdd, by decide⟩ hcc (fun r9 g9 h9 => by obtain ⟨s9, V9, R9, rfl, rfl, h⟩ := h9; exact kk s9 V9 R9 h) jNo.x
-- VisitingHours.book(III)I
def wX1_book_40 (x : Nat) (a1 : Int32) (a2 : Int32) (a3 : Int32) (Q : Int32 → List jH → (Nat → Nat → Int32) → (Nat → Nat → Option Nat) → Prop) (X : String → List jH → (Nat → Nat → Int32) → (Nat → Nat → Option Nat) → Prop) (sh : List jH) (V : Nat → Nat → Int32) (R : Nat → Nat → Option Nat) (c : Nat) (n : Nat) (s0 : Int32) : Prop :=
  ((wX1_may s0 ((∃ c144 n144 c244 n244 : Nat, c144 + c244 ≤ c ∧ n144 + n244 ≤ n ∧ (wX1_remembers x sh V R c144 n144 (fun sh44 V44 R44 => (jReg shX1 sh44 x ∧ (vp_in a1 8 ∧ (vp_in a3 8 ∧ (∀ y58 : Int32, y58 = (V44 (((x + 1) + 26) + 1 + a1.toNatClampNeg) a3.toNatClampNeg) → (vp_in a1 8 ∧ (vp_in a3 8 ∧ Q y58 sh44 (vset V44 (((x + 1) + 26) + 1 + a1.toNatClampNeg) a3.toNatClampNeg a2) R44)))))))))) (fun _ => False)) ∨ (wX1_may s0 False (fun E9 => X E9 sh V R) ∧ 1 ≤ c ∧ 6 ≤ n))
theorem rX1_book_40 {G : jG} {l : Launch} {d : Nat} (htr : l.stackTraces = false) (hdd : 11 ≤ d) {x : Nat} {a1 : Int32} {a2 : Int32} {a3 : Int32} {Q : Int32 → List jH → (Nat → Nat → Int32) → (Nat → Nat → Option Nat) → Prop} {X : String → List jH → (Nat → Nat → Int32) → (Nat → Nat → Option Nat) → Prop} {sh : List jH} {V : Nat → Nat → Int32} {R : Nat → Nat → Option Nat} {c : Nat} {n : Nat} {s0 : Int32} (hT : jReg shX1 sh x) (hw : wX1_book_40 x a1 a2 a3 Q X sh V R c n s0) : J G l MX1_book d c n 40 [(0, .ref x), (1, .int a1), (2, .int a2), (3, .int a3)] [.int s0] (mk sh V R) (jSr Q) (jSx X) := by
  unfold wX1_book_40 at hw
  rcases hw with hw | hw
  rotate_left
  · refine uxX1_530 rfl htr dX1_book_40 (by omega) (Nat.le_of_ble_eq_true rfl) hw.1 (Or.inr hw.2) ?_
    exact fun E9 h9 => JX.out (by rfl) ⟨_, _, _, rfl, h9⟩
  refine uX1_530 rfl htr dX1_book_40 (by omega) (Nat.le_of_ble_eq_true rfl) hw ?_
  clear hw
  intro hw
  refine J.aload_n 0 dX1_book_43 rfl ?_
  obtain ⟨c144, n144, c244, n244, hc44, hd44, hw⟩ := hw
  refine uX1_533 rfl htr hT dX1_book_44 (by omega) (Nat.le_of_ble_eq_true rfl) hw ⟨hc44, hd44⟩ ?_
  clear hw
  intro sh44 V44 R44 hw
  clear hT
  obtain ⟨hT, hw⟩ := hw
  refine J.aload_n 0 dX1_book_47 rfl ?_
  refine fgX1_10 rfl hT dX1_book_48 ?_
  refine fgX1_415 rfl (hT.sub 1 36 rfl) dX1_book_51 ?_
  refine J.iload_n 1 dX1_book_54 rfl ?_
  obtain ⟨h55, hw⟩ := hw
  refine JV.grid dX1_book_55 ((hT.sub 1 36 rfl).ge 26) ((hT.sub 1 36 rfl).at 26 rfl) h55 ?_
  refine J.iload_n 3 dX1_book_56 rfl ?_
  obtain ⟨h57, hw⟩ := hw
  refine JV.iald dX1_book_57 (jrowg (hT.sub 1 36 rfl).1) (jrowB (hT.sub 1 36 rfl) h55) h57 ?_
  refine J.nm hw ?_
  clear hw
  intro y58 hw
  refine J.istore (lv' := [(4, .int y58), (0, .ref x), (1, .int a1), (2, .int a2), (3, .int a3)]) dX1_book_58 (by decide) rfl ?_
  refine J.aload_n 1 dX1_book_60 rfl ?_
  refine fgX1_10 rfl hT dX1_book_61 ?_
  refine fgX1_415 rfl (hT.sub 1 36 rfl) dX1_book_64 ?_
  refine J.iload_n 2 dX1_book_67 rfl ?_
  obtain ⟨h68, hw⟩ := hw
  refine JV.grid dX1_book_68 ((hT.sub 1 36 rfl).ge 26) ((hT.sub 1 36 rfl).at 26 rfl) h68 ?_
  refine J.iload_n 4 dX1_book_69 rfl ?_
  refine J.iload_n 3 dX1_book_70 rfl ?_
  obtain ⟨h71, hw⟩ := hw
  refine JV.iast dX1_book_71 (jrowg (hT.sub 1 36 rfl).1) (jrowB (hT.sub 1 36 rfl) h68) h71 ?_
  refine J.iload 0 dX1_book_72 rfl ?_
  exact J.iret rfl dX1_book_74 ⟨_, _, _, rfl, _, rfl, hw⟩
def wX1_book_39 (x : Nat) (a1 : Int32) (a2 : Int32) (a3 : Int32) (Q : Int32 → List jH → (Nat → Nat → Int32) → (Nat → Nat → Option Nat) → Prop) (X : String → List jH → (Nat → Nat → Int32) → (Nat → Nat → Option Nat) → Prop) (sh : List jH) (V : Nat → Nat → Int32) (R : Nat → Nat → Option Nat) (c : Nat) (n : Nat) : Prop :=
  wX1_book_40 x a1 a2 a3 Q X sh V R c n (0 : Int32)
theorem rX1_book_39 {G : jG} {l : Launch} {d : Nat} (htr : l.stackTraces = false) (hdd : 11 ≤ d) {x : Nat} {a1 : Int32} {a2 : Int32} {a3 : Int32} {Q : Int32 → List jH → (Nat → Nat → Int32) → (Nat → Nat → Option Nat) → Prop} {X : String → List jH → (Nat → Nat → Int32) → (Nat → Nat → Option Nat) → Prop} {sh : List jH} {V : Nat → Nat → Int32} {R : Nat → Nat → Option Nat} {c : Nat} {n : Nat} (hT : jReg shX1 sh x) (hw : wX1_book_39 x a1 a2 a3 Q X sh V R c n) : J G l MX1_book d c n 39 [(0, .ref x), (1, .int a1), (2, .int a2), (3, .int a3)] [] (mk sh V R) (jSr Q) (jSx X) := by
  unfold wX1_book_39 at hw
  refine J.iconst (v := (0 : Int32)) dX1_book_39 (by decide) ?_
  exact (rX1_book_40 htr hdd hT hw)
def wX1_book (x : Nat) (sh : List jH) (V : Nat → Nat → Int32) (R : Nat → Nat → Option Nat) (c : Nat) (n : Nat) (a1 : Int32) (a2 : Int32) (a3 : Int32) (Q : Int32 → List jH → (Nat → Nat → Int32) → (Nat → Nat → Option Nat) → Prop) (X : String → List jH → (Nat → Nat → Int32) → (Nat → Nat → Option Nat) → Prop) : Prop :=
  ((wX1_allAt x V a1 a2 a3 ((wX2_can (x + 1) V a1 a2 a3 (fun r14 => ((r14 = 0 → wX1_book_39 x a1 a2 a3 Q X sh V R c n) ∧ (¬ r14 = 0 → (wX2_busy (x + 1) V a2 (fun r25 => (wX1_has r25 a3 (fun r29 => ((¬ r29 = 0 → wX1_book_39 x a1 a2 a3 Q X sh V R c n) ∧ (r29 = 0 → wX1_book_40 x a1 a2 a3 Q X sh V R c n (1 : Int32)))))))))))) (fun _ => False)) ∨ (wX1_allAt x V a1 a2 a3 False (fun E9 => X E9 sh V R) ∧ 1 ≤ c ∧ 6 ≤ n))
theorem mX1_book {G : jG} {l : Launch} {d : Nat} (htr : l.stackTraces = false) (hdd : 11 ≤ d) {sh : List jH} {V : Nat → Nat → Int32} {R : Nat → Nat → Option Nat} {c : Nat} {n : Nat} {x : Nat} (hT : jReg shX1 sh x) {a1 : Int32} {a2 : Int32} {a3 : Int32} {Q : Int32 → List jH → (Nat → Nat → Int32) → (Nat → Nat → Option Nat) → Prop} {X : String → List jH → (Nat → Nat → Int32) → (Nat → Nat → Option Nat) → Prop} (hw : wX1_book x sh V R c n a1 a2 a3 Q X) : JM G l MX1_book d c n [.ref x, .int a1, .int a2, .int a3] (mk sh V R) (jSr Q) (jSx X) := by
  refine JM.intro (by decide) rfl htr (Nat.le_of_ble_eq_true rfl) ?_
  show J G l MX1_book d c n 0 [(0, .ref x), (1, .int a1), (2, .int a2), (3, .int a3)] [] (mk sh V R) _ _
  unfold wX1_book at hw
  refine J.aload_n 0 dX1_book_0 rfl ?_
  refine J.iload_n 1 dX1_book_1 rfl ?_
  refine J.iload_n 2 dX1_book_2 rfl ?_
  refine J.iload_n 3 dX1_book_3 rfl ?_
  rcases hw with hw | hw
  rotate_left
  · refine uxX1_522 rfl htr hT dX1_book_4 (by omega) (Nat.le_of_ble_eq_true rfl) hw.1 (Or.inr hw.2) ?_
    exact fun E9 h9 => JX.out (by rfl) ⟨_, _, _, rfl, h9⟩
  refine uX1_522 rfl htr hT dX1_book_4 (by omega) (Nat.le_of_ble_eq_true rfl) hw ?_
  clear hw
  intro hw
  refine J.aload_n 0 dX1_book_7 rfl ?_
  refine fgX1_10 rfl hT dX1_book_8 ?_
  refine J.iload_n 1 dX1_book_11 rfl ?_
  refine J.iload_n 2 dX1_book_12 rfl ?_
  refine J.iload_n 3 dX1_book_13 rfl ?_
  refine uX1_432 rfl htr (hT.sub 1 36 rfl) dX1_book_14 (by omega) (Nat.le_of_ble_eq_true rfl) hw ?_
  clear hw
  intro r14 hw
  refine J.if_eq 39 dX1_book_17 (by decide) ⟨fun c17 => ?_, fun c17 => ?_⟩
  · obtain ⟨hw, -⟩ := hw
    specialize hw c17
    exact (rX1_book_39 htr hdd hT hw)
  · obtain ⟨-, hw⟩ := hw
    specialize hw c17
    refine J.aload_n 0 dX1_book_20 rfl ?_
    refine fgX1_10 rfl hT dX1_book_21 ?_
    refine J.iload_n 2 dX1_book_24 rfl ?_
    refine uX1_516 rfl htr (hT.sub 1 36 rfl) dX1_book_25 (by omega) (Nat.le_of_ble_eq_true rfl) hw ?_
    clear hw
    intro r25 hw
    refine J.iload_n 3 dX1_book_28 rfl ?_
    refine uX1_128 rfl htr dX1_book_29 (by omega) (Nat.le_of_ble_eq_true rfl) hw ?_
    clear hw
    intro r29 hw
    refine J.if_ne 39 dX1_book_32 (by decide) ⟨fun c32 => ?_, fun c32 => ?_⟩
    · obtain ⟨hw, -⟩ := hw
      specialize hw c32
      exact (rX1_book_39 htr hdd hT hw)
    · obtain ⟨-, hw⟩ := hw
      specialize hw c32
      refine J.iconst (v := (1 : Int32)) dX1_book_35 (by decide) ?_
      refine J.goto 40 dX1_book_36 (by decide) ?_
      exact (rX1_book_40 htr hdd hT hw)
abbrev MX1_strike : jM := (yX1_strike, cX1_strike, 4, some .int, [])
theorem uX1_489 {G : jG} {l : Launch} {M : jM} {d c n pc : Nat} {lv : List (Nat × Value)} {rest : List Value} {post : Option Value → List jC → Prop} {xp : String → List jC → Prop} (hM : M.1.cls = RX1) (htr : l.stackTraces = false) {sh : List jH} {V : Nat → Nat → Int32} {R : Nat → Nat → Option Nat} {x : Nat} (hT : jReg shX1 sh x) {a1 : Int32} {Q : Prop} (hd : decode M.2.1 pc = .ok (.invokevirtual 489, 3)) (hdd : 9 + 1 ≤ d) (hw8 : (rest.map fun v => v.category).sum ≤ 8) (hw : wX1_hostAt x V a1 Q (fun _ => False)) (kk : Q → J G l M d c n (pc + 3) lv rest (mk sh V R) post xp) : J G l M d c n pc lv (.int a1 :: .ref x :: rest) (mk sh V R) post xp := by
  exact J.callV (c' := 0) (n' := 0) (As := [.int a1]) (hcw := by rw [hM]; exact lw_V q1661 q1663 qs42 q144 q1664) (mX1_hostAt htr hT hw (Or.inl (fun _ h => h))) hd rfl ⟨0, _, _, mk_at (hT.at 0 rfl), rfl, rfl, fun _ => rfl⟩ ⟨rfl, by decide, by decide, by show _ = some 1; decide +kernel⟩ hw8 ⟨hdd, by decide⟩ jcc0 (fun r9 g9 h9 => by obtain ⟨rfl, rfl, h⟩ := h9; exact kk h) (fun E9 g9 h9 => by obtain ⟨_, h⟩ := h9; exact h.elim)
theorem uxX1_489 {G : jG} {l : Launch} {M : jM} {d c n pc : Nat} {lv : List (Nat × Value)} {rest : List Value} {post : Option Value → List jC → Prop} {xp : String → List jC → Prop} (hM : M.1.cls = RX1) (htr : l.stackTraces = false) {sh : List jH} {V : Nat → Nat → Int32} {R : Nat → Nat → Option Nat} {x : Nat} (hT : jReg shX1 sh x) {a1 : Int32} {X : String → Prop} (hd : decode M.2.1 pc = .ok (.invokevirtual 489, 3)) (hdd : 9 + 1 ≤ d) (hw8 : (rest.map fun v => v.category).sum ≤ 8) (hw : wX1_hostAt x V a1 False X) (hb : (∀ E, ¬ X E) ∨ 1 ≤ c ∧ 6 ≤ n) (kx : ∀ E, X E → JX G l M d 0 0 pc lv E (mk sh V R) post xp) : J G l M d c n pc lv (.int a1 :: .ref x :: rest) (mk sh V R) post xp := by
  exact J.callV (c := 0) (n := 0) (c' := c) (n' := n) (As := [.int a1]) (hcw := by rw [hM]; exact lw_V q1661 q1663 qs42 q144 q1664) (mX1_hostAt htr hT hw hb) hd rfl ⟨0, _, _, mk_at (hT.at 0 rfl), rfl, rfl, fun _ => rfl⟩ ⟨rfl, by decide, by decide, by show _ = some 1; decide +kernel⟩ hw8 ⟨hdd, by decide⟩ ⟨by omega, by omega⟩ (fun r9 g9 h9 => by obtain ⟨_, _, h⟩ := h9; exact h.elim) (fun E9 g9 h9 => by obtain ⟨rfl, h⟩ := h9; exact kx E9 h)
theorem uX1_495 {G : jG} {l : Launch} {M : jM} {d c n pc : Nat} {lv : List (Nat × Value)} {rest : List Value} {post : Option Value → List jC → Prop} {xp : String → List jC → Prop} (hM : M.1.cls = RX1) (htr : l.stackTraces = false) {sh : List jH} {V : Nat → Nat → Int32} {R : Nat → Nat → Option Nat} {a1 : Int32} {Q : Prop} (hd : decode M.2.1 pc = .ok (.invokestatic 495, 3)) (hdd : 9 + 1 ≤ d) (hw8 : (rest.map fun v => v.category).sum ≤ 8) (hw : wX1_quarterAt a1 Q (fun _ => False)) (kk : Q → J G l M d c n (pc + 3) lv rest (mk sh V R) post xp) : J G l M d c n pc lv (.int a1 :: rest) (mk sh V R) post xp := by
  exact J.callS (c' := 0) (n' := 0) (As := [.int a1]) (hcw := by rw [hM]; exact lw_S q1738 q1739 q144 q1740) (mX1_quarterAt htr hw (Or.inl (fun _ h => h))) hd rfl ⟨by decide, by decide, by show _ = some 1; decide +kernel⟩ hw8 ⟨hdd, by decide⟩ jcc0 (fun r9 g9 h9 => by obtain ⟨rfl, rfl, h⟩ := h9; exact kk h) (fun E9 g9 h9 => by obtain ⟨_, h⟩ := h9; exact h.elim)
theorem uxX1_495 {G : jG} {l : Launch} {M : jM} {d c n pc : Nat} {lv : List (Nat × Value)} {rest : List Value} {post : Option Value → List jC → Prop} {xp : String → List jC → Prop} (hM : M.1.cls = RX1) (htr : l.stackTraces = false) {sh : List jH} {V : Nat → Nat → Int32} {R : Nat → Nat → Option Nat} {a1 : Int32} {X : String → Prop} (hd : decode M.2.1 pc = .ok (.invokestatic 495, 3)) (hdd : 9 + 1 ≤ d) (hw8 : (rest.map fun v => v.category).sum ≤ 8) (hw : wX1_quarterAt a1 False X) (hb : (∀ E, ¬ X E) ∨ 1 ≤ c ∧ 6 ≤ n) (kx : ∀ E, X E → JX G l M d 0 0 pc lv E (mk sh V R) post xp) : J G l M d c n pc lv (.int a1 :: rest) (mk sh V R) post xp := by
  exact J.callS (c := 0) (n := 0) (c' := c) (n' := n) (As := [.int a1]) (hcw := by rw [hM]; exact lw_S q1738 q1739 q144 q1740) (mX1_quarterAt htr hw hb) hd rfl ⟨by decide, by decide, by show _ = some 1; decide +kernel⟩ hw8 ⟨hdd, by decide⟩ ⟨by omega, by omega⟩ (fun r9 g9 h9 => by obtain ⟨_, _, h⟩ := h9; exact h.elim) (fun E9 g9 h9 => by obtain ⟨rfl, h⟩ := h9; exact kx E9 h)
-- VisitingHours.strike(II)I
def wX1_strike_29 (x : Nat) (a1 : Int32) (a2 : Int32) (Q : Int32 → List jH → (Nat → Nat → Int32) → (Nat → Nat → Option Nat) → Prop) (X : String → List jH → (Nat → Nat → Int32) → (Nat → Nat → Option Nat) → Prop) (sh : List jH) (V : Nat → Nat → Int32) (R : Nat → Nat → Option Nat) (c : Nat) (n : Nat) (s0 : Int32) : Prop :=
  ((wX1_may s0 ((∃ c133 n133 c233 n233 : Nat, c133 + c233 ≤ c ∧ n133 + n233 ≤ n ∧ (wX1_remembers x sh V R c133 n133 (fun sh33 V33 R33 => (jReg shX1 sh33 x ∧ (vp_in a1 8 ∧ (vp_in a2 8 ∧ (∀ y47 : Int32, y47 = (V33 (((x + 1) + 26) + 1 + a1.toNatClampNeg) a2.toNatClampNeg) → (vp_in a1 8 ∧ (vp_in a2 8 ∧ Q y47 sh33 (vset V33 (((x + 1) + 26) + 1 + a1.toNatClampNeg) a2.toNatClampNeg (-1 : Int32)) R33)))))))))) (fun _ => False)) ∨ (wX1_may s0 False (fun E9 => X E9 sh V R) ∧ 1 ≤ c ∧ 6 ≤ n))
theorem rX1_strike_29 {G : jG} {l : Launch} {d : Nat} (htr : l.stackTraces = false) (hdd : 10 ≤ d) {x : Nat} {a1 : Int32} {a2 : Int32} {Q : Int32 → List jH → (Nat → Nat → Int32) → (Nat → Nat → Option Nat) → Prop} {X : String → List jH → (Nat → Nat → Int32) → (Nat → Nat → Option Nat) → Prop} {sh : List jH} {V : Nat → Nat → Int32} {R : Nat → Nat → Option Nat} {c : Nat} {n : Nat} {s0 : Int32} (hT : jReg shX1 sh x) (hw : wX1_strike_29 x a1 a2 Q X sh V R c n s0) : J G l MX1_strike d c n 29 [(0, .ref x), (1, .int a1), (2, .int a2)] [.int s0] (mk sh V R) (jSr Q) (jSx X) := by
  unfold wX1_strike_29 at hw
  rcases hw with hw | hw
  rotate_left
  · refine uxX1_530 rfl htr dX1_strike_29 (by omega) (Nat.le_of_ble_eq_true rfl) hw.1 (Or.inr hw.2) ?_
    exact fun E9 h9 => JX.out (by rfl) ⟨_, _, _, rfl, h9⟩
  refine uX1_530 rfl htr dX1_strike_29 (by omega) (Nat.le_of_ble_eq_true rfl) hw ?_
  clear hw
  intro hw
  refine J.aload_n 0 dX1_strike_32 rfl ?_
  obtain ⟨c133, n133, c233, n233, hc33, hd33, hw⟩ := hw
  refine uX1_533 rfl htr hT dX1_strike_33 (by omega) (Nat.le_of_ble_eq_true rfl) hw ⟨hc33, hd33⟩ ?_
  clear hw
  intro sh33 V33 R33 hw
  clear hT
  obtain ⟨hT, hw⟩ := hw
  refine J.aload_n 0 dX1_strike_36 rfl ?_
  refine fgX1_10 rfl hT dX1_strike_37 ?_
  refine fgX1_415 rfl (hT.sub 1 36 rfl) dX1_strike_40 ?_
  refine J.iload_n 1 dX1_strike_43 rfl ?_
  obtain ⟨h44, hw⟩ := hw
  refine JV.grid dX1_strike_44 ((hT.sub 1 36 rfl).ge 26) ((hT.sub 1 36 rfl).at 26 rfl) h44 ?_
  refine J.iload_n 2 dX1_strike_45 rfl ?_
  obtain ⟨h46, hw⟩ := hw
  refine JV.iald dX1_strike_46 (jrowg (hT.sub 1 36 rfl).1) (jrowB (hT.sub 1 36 rfl) h44) h46 ?_
  refine J.nm hw ?_
  clear hw
  intro y47 hw
  refine J.istore_n (lv' := [(3, .int y47), (0, .ref x), (1, .int a1), (2, .int a2)]) dX1_strike_47 (by decide) rfl ?_
  refine J.aload_n 1 dX1_strike_48 rfl ?_
  refine fgX1_10 rfl hT dX1_strike_49 ?_
  refine fgX1_415 rfl (hT.sub 1 36 rfl) dX1_strike_52 ?_
  refine J.iload_n 2 dX1_strike_55 rfl ?_
  obtain ⟨h56, hw⟩ := hw
  refine JV.grid dX1_strike_56 ((hT.sub 1 36 rfl).ge 26) ((hT.sub 1 36 rfl).at 26 rfl) h56 ?_
  refine J.iload_n 3 dX1_strike_57 rfl ?_
  refine J.iconst (v := (-1 : Int32)) dX1_strike_58 (by decide) ?_
  obtain ⟨h59, hw⟩ := hw
  refine JV.iast dX1_strike_59 (jrowg (hT.sub 1 36 rfl).1) (jrowB (hT.sub 1 36 rfl) h56) h59 ?_
  refine J.iload_n 0 dX1_strike_60 rfl ?_
  exact J.iret rfl dX1_strike_61 ⟨_, _, _, rfl, _, rfl, hw⟩
def wX1_strike (x : Nat) (sh : List jH) (V : Nat → Nat → Int32) (R : Nat → Nat → Option Nat) (c : Nat) (n : Nat) (a1 : Int32) (a2 : Int32) (Q : Int32 → List jH → (Nat → Nat → Int32) → (Nat → Nat → Option Nat) → Prop) (X : String → List jH → (Nat → Nat → Int32) → (Nat → Nat → Option Nat) → Prop) : Prop :=
  ((wX1_hostAt x V a1 (((wX1_quarterAt a2 ((vp_in a1 8 ∧ (vp_in a2 8 ∧ (((V (((x + 1) + 26) + 1 + a1.toNatClampNeg) a2.toNatClampNeg) = (-1 : Int32) → wX1_strike_29 x a1 a2 Q X sh V R c n (0 : Int32)) ∧ (¬ (V (((x + 1) + 26) + 1 + a1.toNatClampNeg) a2.toNatClampNeg) = (-1 : Int32) → wX1_strike_29 x a1 a2 Q X sh V R c n (1 : Int32)))))) (fun _ => False)) ∨ (wX1_quarterAt a2 False (fun E9 => X E9 sh V R) ∧ 1 ≤ c ∧ 6 ≤ n))) (fun _ => False)) ∨ (wX1_hostAt x V a1 False (fun E9 => X E9 sh V R) ∧ 1 ≤ c ∧ 6 ≤ n))
theorem mX1_strike {G : jG} {l : Launch} {d : Nat} (htr : l.stackTraces = false) (hdd : 10 ≤ d) {sh : List jH} {V : Nat → Nat → Int32} {R : Nat → Nat → Option Nat} {c : Nat} {n : Nat} {x : Nat} (hT : jReg shX1 sh x) {a1 : Int32} {a2 : Int32} {Q : Int32 → List jH → (Nat → Nat → Int32) → (Nat → Nat → Option Nat) → Prop} {X : String → List jH → (Nat → Nat → Int32) → (Nat → Nat → Option Nat) → Prop} (hw : wX1_strike x sh V R c n a1 a2 Q X) : JM G l MX1_strike d c n [.ref x, .int a1, .int a2] (mk sh V R) (jSr Q) (jSx X) := by
  refine JM.intro (by decide) rfl htr (Nat.le_of_ble_eq_true rfl) ?_
  show J G l MX1_strike d c n 0 [(0, .ref x), (1, .int a1), (2, .int a2)] [] (mk sh V R) _ _
  unfold wX1_strike at hw
  refine J.aload_n 0 dX1_strike_0 rfl ?_
  refine J.iload_n 1 dX1_strike_1 rfl ?_
  rcases hw with hw | hw
  rotate_left
  · refine uxX1_489 rfl htr hT dX1_strike_2 (by omega) (Nat.le_of_ble_eq_true rfl) hw.1 (Or.inr hw.2) ?_
    exact fun E9 h9 => JX.out (by rfl) ⟨_, _, _, rfl, h9⟩
  refine uX1_489 rfl htr hT dX1_strike_2 (by omega) (Nat.le_of_ble_eq_true rfl) hw ?_
  clear hw
  intro hw
  refine J.iload_n 2 dX1_strike_5 rfl ?_
  rcases hw with hw | hw
  rotate_left
  · refine uxX1_495 rfl htr dX1_strike_6 (by omega) (Nat.le_of_ble_eq_true rfl) hw.1 (Or.inr hw.2) ?_
    exact fun E9 h9 => JX.out (by rfl) ⟨_, _, _, rfl, h9⟩
  refine uX1_495 rfl htr dX1_strike_6 (by omega) (Nat.le_of_ble_eq_true rfl) hw ?_
  clear hw
  intro hw
  refine J.aload_n 0 dX1_strike_9 rfl ?_
  refine fgX1_10 rfl hT dX1_strike_10 ?_
  refine fgX1_415 rfl (hT.sub 1 36 rfl) dX1_strike_13 ?_
  refine J.iload_n 1 dX1_strike_16 rfl ?_
  obtain ⟨h17, hw⟩ := hw
  refine JV.grid dX1_strike_17 ((hT.sub 1 36 rfl).ge 26) ((hT.sub 1 36 rfl).at 26 rfl) h17 ?_
  refine J.iload_n 2 dX1_strike_18 rfl ?_
  obtain ⟨h19, hw⟩ := hw
  refine JV.iald dX1_strike_19 (jrowg (hT.sub 1 36 rfl).1) (jrowB (hT.sub 1 36 rfl) h17) h19 ?_
  refine J.iconst (v := (-1 : Int32)) dX1_strike_20 (by decide) ?_
  refine J.icmp_eq 28 dX1_strike_21 (by decide) ⟨fun c21 => ?_, fun c21 => ?_⟩
  · obtain ⟨hw, -⟩ := hw
    specialize hw c21
    refine J.iconst (v := (0 : Int32)) dX1_strike_28 (by decide) ?_
    exact (rX1_strike_29 htr hdd hT hw)
  · obtain ⟨-, hw⟩ := hw
    specialize hw c21
    refine J.iconst (v := (1 : Int32)) dX1_strike_24 (by decide) ?_
    refine J.goto 29 dX1_strike_25 (by decide) ?_
    exact (rX1_strike_29 htr hdd hT hw)
abbrev MX1_change : jM := (yX1_change, cX1_change, 5, some .int, [])
theorem uX1_498 {G : jG} {l : Launch} {M : jM} {d c n pc : Nat} {lv : List (Nat × Value)} {rest : List Value} {post : Option Value → List jC → Prop} {xp : String → List jC → Prop} (hM : M.1.cls = RX1) (htr : l.stackTraces = false) {sh : List jH} {V : Nat → Nat → Int32} {R : Nat → Nat → Option Nat} {a1 : Int32} {Q : Prop} (hd : decode M.2.1 pc = .ok (.invokestatic 498, 3)) (hdd : 8 + 1 ≤ d) (hw8 : (rest.map fun v => v.category).sum ≤ 8) (hw : wX1_demand a1 Q (fun _ => False)) (kk : Q → J G l M d c n (pc + 3) lv rest (mk sh V R) post xp) : J G l M d c n pc lv (.int a1 :: rest) (mk sh V R) post xp := by
  exact J.callS (c' := 0) (n' := 0) (As := [.int a1]) (hcw := by rw [hM]; exact lw_S q1814 q1815 q144 q1816) (mX1_demand htr hw (Or.inl (fun _ h => h))) hd rfl ⟨by decide, by decide, by show _ = some 1; decide +kernel⟩ hw8 ⟨hdd, by decide⟩ jcc0 (fun r9 g9 h9 => by obtain ⟨rfl, rfl, h⟩ := h9; exact kk h) (fun E9 g9 h9 => by obtain ⟨_, h⟩ := h9; exact h.elim)
theorem uxX1_498 {G : jG} {l : Launch} {M : jM} {d c n pc : Nat} {lv : List (Nat × Value)} {rest : List Value} {post : Option Value → List jC → Prop} {xp : String → List jC → Prop} (hM : M.1.cls = RX1) (htr : l.stackTraces = false) {sh : List jH} {V : Nat → Nat → Int32} {R : Nat → Nat → Option Nat} {a1 : Int32} {X : String → Prop} (hd : decode M.2.1 pc = .ok (.invokestatic 498, 3)) (hdd : 8 + 1 ≤ d) (hw8 : (rest.map fun v => v.category).sum ≤ 8) (hw : wX1_demand a1 False X) (hb : (∀ E, ¬ X E) ∨ 1 ≤ c ∧ 6 ≤ n) (kx : ∀ E, X E → JX G l M d 0 0 pc lv E (mk sh V R) post xp) : J G l M d c n pc lv (.int a1 :: rest) (mk sh V R) post xp := by
  exact J.callS (c := 0) (n := 0) (c' := c) (n' := n) (As := [.int a1]) (hcw := by rw [hM]; exact lw_S q1814 q1815 q144 q1816) (mX1_demand htr hw hb) hd rfl ⟨by decide, by decide, by show _ = some 1; decide +kernel⟩ hw8 ⟨hdd, by decide⟩ ⟨by omega, by omega⟩ (fun r9 g9 h9 => by obtain ⟨_, _, h⟩ := h9; exact h.elim) (fun E9 g9 h9 => by obtain ⟨rfl, h⟩ := h9; exact kx E9 h)
theorem uX1_536 {G : jG} {l : Launch} {M : jM} {d c n pc : Nat} {lv : List (Nat × Value)} {rest : List Value} {post : Option Value → List jC → Prop} {xp : String → List jC → Prop} (hM : M.1.cls = RX1) (htr : l.stackTraces = false) {sh : List jH} {V : Nat → Nat → Int32} {R : Nat → Nat → Option Nat} {x : Nat} (hT : jReg shX1 sh x) {a1 : Int32} {a2 : Int32} {Q : Prop} (hd : decode M.2.1 pc = .ok (.invokevirtual 536, 3)) (hdd : 10 + 1 ≤ d) (hw8 : (rest.map fun v => v.category).sum ≤ 8) (hw : wX1_twoHosts x V a1 a2 Q (fun _ => False)) (kk : Q → J G l M d c n (pc + 3) lv rest (mk sh V R) post xp) : J G l M d c n pc lv (.int a2 :: .int a1 :: .ref x :: rest) (mk sh V R) post xp := by
  exact J.callV (c' := 0) (n' := 0) (As := [.int a1, .int a2]) (hcw := by rw [hM]; exact lw_V q1810 q1812 qs47 q144 q1813) (mX1_twoHosts htr hT hw (Or.inl (fun _ h => h))) hd rfl ⟨0, _, _, mk_at (hT.at 0 rfl), rfl, rfl, fun _ => rfl⟩ ⟨rfl, by decide, by decide, by show _ = some 2; decide +kernel⟩ hw8 ⟨hdd, by decide⟩ jcc0 (fun r9 g9 h9 => by obtain ⟨rfl, rfl, h⟩ := h9; exact kk h) (fun E9 g9 h9 => by obtain ⟨_, h⟩ := h9; exact h.elim)
theorem uxX1_536 {G : jG} {l : Launch} {M : jM} {d c n pc : Nat} {lv : List (Nat × Value)} {rest : List Value} {post : Option Value → List jC → Prop} {xp : String → List jC → Prop} (hM : M.1.cls = RX1) (htr : l.stackTraces = false) {sh : List jH} {V : Nat → Nat → Int32} {R : Nat → Nat → Option Nat} {x : Nat} (hT : jReg shX1 sh x) {a1 : Int32} {a2 : Int32} {X : String → Prop} (hd : decode M.2.1 pc = .ok (.invokevirtual 536, 3)) (hdd : 10 + 1 ≤ d) (hw8 : (rest.map fun v => v.category).sum ≤ 8) (hw : wX1_twoHosts x V a1 a2 False X) (hb : (∀ E, ¬ X E) ∨ 1 ≤ c ∧ 6 ≤ n) (kx : ∀ E, X E → JX G l M d 0 0 pc lv E (mk sh V R) post xp) : J G l M d c n pc lv (.int a2 :: .int a1 :: .ref x :: rest) (mk sh V R) post xp := by
  exact J.callV (c := 0) (n := 0) (c' := c) (n' := n) (As := [.int a1, .int a2]) (hcw := by rw [hM]; exact lw_V q1810 q1812 qs47 q144 q1813) (mX1_twoHosts htr hT hw hb) hd rfl ⟨0, _, _, mk_at (hT.at 0 rfl), rfl, rfl, fun _ => rfl⟩ ⟨rfl, by decide, by decide, by show _ = some 2; decide +kernel⟩ hw8 ⟨hdd, by decide⟩ ⟨by omega, by omega⟩ (fun r9 g9 h9 => by obtain ⟨_, _, h⟩ := h9; exact h.elim) (fun E9 g9 h9 => by obtain ⟨rfl, h⟩ := h9; exact kx E9 h)
-- VisitingHours.change(III)I
def wX1_change_20 (x : Nat) (a1 : Int32) (a2 : Int32) (a3 : Int32) (Q : Int32 → List jH → (Nat → Nat → Int32) → (Nat → Nat → Option Nat) → Prop) (X : String → List jH → (Nat → Nat → Int32) → (Nat → Nat → Option Nat) → Prop) (sh : List jH) (V : Nat → Nat → Int32) (R : Nat → Nat → Option Nat) (c : Nat) (n : Nat) (s0 : Int32) : Prop :=
  ((wX1_demand s0 ((∃ c124 n124 c224 n224 : Nat, c124 + c224 ≤ c ∧ n124 + n224 ≤ n ∧ (wX1_remembers x sh V R c124 n124 (fun sh24 V24 R24 => (jReg shX1 sh24 x ∧ (vp_in a1 8 ∧ (vp_in a3 8 ∧ (∀ y38 : Int32, y38 = (V24 (((x + 1) + 26) + 1 + a1.toNatClampNeg) a3.toNatClampNeg) → (vp_in a1 8 ∧ (vp_in a2 8 ∧ (vp_in a3 8 ∧ (∀ y61 : Int32, y61 = (V24 (((x + 1) + 26) + 1 + a2.toNatClampNeg) a3.toNatClampNeg) → (vp_in a3 8 ∧ (vp_in a2 8 ∧ (vp_in a3 8 ∧ (vp_in a1 8 ∧ (vp_in a3 8 ∧ Q ((vset (vset V24 (((x + 1) + 26) + 1 + a1.toNatClampNeg) a3.toNatClampNeg y61) (((x + 1) + 26) + 1 + a2.toNatClampNeg) a3.toNatClampNeg y38) (((x + 1) + 26) + 1 + a1.toNatClampNeg) a3.toNatClampNeg) sh24 (vset (vset V24 (((x + 1) + 26) + 1 + a1.toNatClampNeg) a3.toNatClampNeg y61) (((x + 1) + 26) + 1 + a2.toNatClampNeg) a3.toNatClampNeg y38) R24))))))))))))))))) (fun _ => False)) ∨ (wX1_demand s0 False (fun E9 => X E9 sh V R) ∧ 1 ≤ c ∧ 6 ≤ n))
theorem rX1_change_20 {G : jG} {l : Launch} {d : Nat} (htr : l.stackTraces = false) (hdd : 11 ≤ d) {x : Nat} {a1 : Int32} {a2 : Int32} {a3 : Int32} {Q : Int32 → List jH → (Nat → Nat → Int32) → (Nat → Nat → Option Nat) → Prop} {X : String → List jH → (Nat → Nat → Int32) → (Nat → Nat → Option Nat) → Prop} {sh : List jH} {V : Nat → Nat → Int32} {R : Nat → Nat → Option Nat} {c : Nat} {n : Nat} {s0 : Int32} (hT : jReg shX1 sh x) (hw : wX1_change_20 x a1 a2 a3 Q X sh V R c n s0) : J G l MX1_change d c n 20 [(0, .ref x), (1, .int a1), (2, .int a2), (3, .int a3)] [.int s0] (mk sh V R) (jSr Q) (jSx X) := by
  unfold wX1_change_20 at hw
  rcases hw with hw | hw
  rotate_left
  · refine uxX1_498 rfl htr dX1_change_20 (by omega) (Nat.le_of_ble_eq_true rfl) hw.1 (Or.inr hw.2) ?_
    exact fun E9 h9 => JX.out (by rfl) ⟨_, _, _, rfl, h9⟩
  refine uX1_498 rfl htr dX1_change_20 (by omega) (Nat.le_of_ble_eq_true rfl) hw ?_
  clear hw
  intro hw
  refine J.aload_n 0 dX1_change_23 rfl ?_
  obtain ⟨c124, n124, c224, n224, hc24, hd24, hw⟩ := hw
  refine uX1_533 rfl htr hT dX1_change_24 (by omega) (Nat.le_of_ble_eq_true rfl) hw ⟨hc24, hd24⟩ ?_
  clear hw
  intro sh24 V24 R24 hw
  clear hT
  obtain ⟨hT, hw⟩ := hw
  refine J.aload_n 0 dX1_change_27 rfl ?_
  refine fgX1_10 rfl hT dX1_change_28 ?_
  refine fgX1_415 rfl (hT.sub 1 36 rfl) dX1_change_31 ?_
  refine J.iload_n 1 dX1_change_34 rfl ?_
  obtain ⟨h35, hw⟩ := hw
  refine JV.grid dX1_change_35 ((hT.sub 1 36 rfl).ge 26) ((hT.sub 1 36 rfl).at 26 rfl) h35 ?_
  refine J.iload_n 3 dX1_change_36 rfl ?_
  obtain ⟨h37, hw⟩ := hw
  refine JV.iald dX1_change_37 (jrowg (hT.sub 1 36 rfl).1) (jrowB (hT.sub 1 36 rfl) h35) h37 ?_
  refine J.nm hw ?_
  clear hw
  intro y38 hw
  refine J.istore (lv' := [(4, .int y38), (0, .ref x), (1, .int a1), (2, .int a2), (3, .int a3)]) dX1_change_38 (by decide) rfl ?_
  refine J.aload_n 1 dX1_change_40 rfl ?_
  refine fgX1_10 rfl hT dX1_change_41 ?_
  refine fgX1_415 rfl (hT.sub 1 36 rfl) dX1_change_44 ?_
  refine J.iload_n 2 dX1_change_47 rfl ?_
  obtain ⟨h48, hw⟩ := hw
  refine JV.grid dX1_change_48 ((hT.sub 1 36 rfl).ge 26) ((hT.sub 1 36 rfl).at 26 rfl) h48 ?_
  refine J.iload_n 4 dX1_change_49 rfl ?_
  refine J.aload_n 1 dX1_change_50 rfl ?_
  refine fgX1_10 rfl hT dX1_change_51 ?_
  refine fgX1_415 rfl (hT.sub 1 36 rfl) dX1_change_54 ?_
  refine J.iload_n 3 dX1_change_57 rfl ?_
  obtain ⟨h58, hw⟩ := hw
  refine JV.grid dX1_change_58 ((hT.sub 1 36 rfl).ge 26) ((hT.sub 1 36 rfl).at 26 rfl) h58 ?_
  refine J.iload_n 4 dX1_change_59 rfl ?_
  obtain ⟨h60, hw⟩ := hw
  refine JV.iald dX1_change_60 (jrowg (hT.sub 1 36 rfl).1) (jrowB (hT.sub 1 36 rfl) h58) h60 ?_
  refine J.nm hw ?_
  clear hw
  intro y61 hw
  obtain ⟨h61, hw⟩ := hw
  refine JV.iast dX1_change_61 (jrowg (hT.sub 1 36 rfl).1) (jrowB (hT.sub 1 36 rfl) h48) h61 ?_
  refine J.aload_n 1 dX1_change_62 rfl ?_
  refine fgX1_10 rfl hT dX1_change_63 ?_
  refine fgX1_415 rfl (hT.sub 1 36 rfl) dX1_change_66 ?_
  refine J.iload_n 3 dX1_change_69 rfl ?_
  obtain ⟨h70, hw⟩ := hw
  refine JV.grid dX1_change_70 ((hT.sub 1 36 rfl).ge 26) ((hT.sub 1 36 rfl).at 26 rfl) h70 ?_
  refine J.iload_n 4 dX1_change_71 rfl ?_
  refine J.iload 0 dX1_change_72 rfl ?_
  obtain ⟨h74, hw⟩ := hw
  refine JV.iast dX1_change_74 (jrowg (hT.sub 1 36 rfl).1) (jrowB (hT.sub 1 36 rfl) h70) h74 ?_
  refine J.aload_n 1 dX1_change_75 rfl ?_
  refine fgX1_10 rfl hT dX1_change_76 ?_
  refine fgX1_415 rfl (hT.sub 1 36 rfl) dX1_change_79 ?_
  refine J.iload_n 2 dX1_change_82 rfl ?_
  obtain ⟨h83, hw⟩ := hw
  refine JV.grid dX1_change_83 ((hT.sub 1 36 rfl).ge 26) ((hT.sub 1 36 rfl).at 26 rfl) h83 ?_
  refine J.iload_n 4 dX1_change_84 rfl ?_
  obtain ⟨h85, hw⟩ := hw
  refine JV.iald dX1_change_85 (jrowg (hT.sub 1 36 rfl).1) (jrowB (hT.sub 1 36 rfl) h83) h85 ?_
  exact J.iret rfl dX1_change_86 ⟨_, _, _, rfl, _, rfl, hw⟩
def wX1_change (x : Nat) (sh : List jH) (V : Nat → Nat → Int32) (R : Nat → Nat → Option Nat) (c : Nat) (n : Nat) (a1 : Int32) (a2 : Int32) (a3 : Int32) (Q : Int32 → List jH → (Nat → Nat → Int32) → (Nat → Nat → Option Nat) → Prop) (X : String → List jH → (Nat → Nat → Int32) → (Nat → Nat → Option Nat) → Prop) : Prop :=
  ((wX1_twoHosts x V a1 a2 (((wX1_quarterAt a3 (((a1 = a2 → wX1_change_20 x a1 a2 a3 Q X sh V R c n (0 : Int32)) ∧ (¬ a1 = a2 → wX1_change_20 x a1 a2 a3 Q X sh V R c n (1 : Int32)))) (fun _ => False)) ∨ (wX1_quarterAt a3 False (fun E9 => X E9 sh V R) ∧ 1 ≤ c ∧ 6 ≤ n))) (fun _ => False)) ∨ (wX1_twoHosts x V a1 a2 False (fun E9 => X E9 sh V R) ∧ 1 ≤ c ∧ 6 ≤ n))
theorem mX1_change {G : jG} {l : Launch} {d : Nat} (htr : l.stackTraces = false) (hdd : 11 ≤ d) {sh : List jH} {V : Nat → Nat → Int32} {R : Nat → Nat → Option Nat} {c : Nat} {n : Nat} {x : Nat} (hT : jReg shX1 sh x) {a1 : Int32} {a2 : Int32} {a3 : Int32} {Q : Int32 → List jH → (Nat → Nat → Int32) → (Nat → Nat → Option Nat) → Prop} {X : String → List jH → (Nat → Nat → Int32) → (Nat → Nat → Option Nat) → Prop} (hw : wX1_change x sh V R c n a1 a2 a3 Q X) : JM G l MX1_change d c n [.ref x, .int a1, .int a2, .int a3] (mk sh V R) (jSr Q) (jSx X) := by
  refine JM.intro (by decide) rfl htr (Nat.le_of_ble_eq_true rfl) ?_
  show J G l MX1_change d c n 0 [(0, .ref x), (1, .int a1), (2, .int a2), (3, .int a3)] [] (mk sh V R) _ _
  unfold wX1_change at hw
  refine J.aload_n 0 dX1_change_0 rfl ?_
  refine J.iload_n 1 dX1_change_1 rfl ?_
  refine J.iload_n 2 dX1_change_2 rfl ?_
  rcases hw with hw | hw
  rotate_left
  · refine uxX1_536 rfl htr hT dX1_change_3 (by omega) (Nat.le_of_ble_eq_true rfl) hw.1 (Or.inr hw.2) ?_
    exact fun E9 h9 => JX.out (by rfl) ⟨_, _, _, rfl, h9⟩
  refine uX1_536 rfl htr hT dX1_change_3 (by omega) (Nat.le_of_ble_eq_true rfl) hw ?_
  clear hw
  intro hw
  refine J.iload_n 3 dX1_change_6 rfl ?_
  rcases hw with hw | hw
  rotate_left
  · refine uxX1_495 rfl htr dX1_change_7 (by omega) (Nat.le_of_ble_eq_true rfl) hw.1 (Or.inr hw.2) ?_
    exact fun E9 h9 => JX.out (by rfl) ⟨_, _, _, rfl, h9⟩
  refine uX1_495 rfl htr dX1_change_7 (by omega) (Nat.le_of_ble_eq_true rfl) hw ?_
  clear hw
  intro hw
  refine J.iload_n 1 dX1_change_10 rfl ?_
  refine J.iload_n 2 dX1_change_11 rfl ?_
  refine J.icmp_eq 19 dX1_change_12 (by decide) ⟨fun c12 => ?_, fun c12 => ?_⟩
  · obtain ⟨hw, -⟩ := hw
    specialize hw c12
    refine J.iconst (v := (0 : Int32)) dX1_change_19 (by decide) ?_
    exact (rX1_change_20 htr hdd hT hw)
  · obtain ⟨-, hw⟩ := hw
    specialize hw c12
    refine J.iconst (v := (1 : Int32)) dX1_change_15 (by decide) ?_
    refine J.goto 20 dX1_change_16 (by decide) ?_
    exact (rX1_change_20 htr hdd hT hw)
abbrev MX1_mark : jM := (yX1_mark, cX1_mark, 4, some .int, [])
theorem uX1_492 {G : jG} {l : Launch} {M : jM} {d c n pc : Nat} {lv : List (Nat × Value)} {rest : List Value} {post : Option Value → List jC → Prop} {xp : String → List jC → Prop} (hM : M.1.cls = RX1) (htr : l.stackTraces = false) {sh : List jH} {V : Nat → Nat → Int32} {R : Nat → Nat → Option Nat} {x : Nat} (hT : jReg shX1 sh x) {a1 : Int32} {Q : Prop} (hd : decode M.2.1 pc = .ok (.invokevirtual 492, 3)) (hdd : 9 + 1 ≤ d) (hw8 : (rest.map fun v => v.category).sum ≤ 8) (hw : wX1_guestAt x V a1 Q (fun _ => False)) (kk : Q → J G l M d c n (pc + 3) lv rest (mk sh V R) post xp) : J G l M d c n pc lv (.int a1 :: .ref x :: rest) (mk sh V R) post xp := by
  exact J.callV (c' := 0) (n' := 0) (As := [.int a1]) (hcw := by rw [hM]; exact lw_V q1716 q1718 qs44 q144 q1719) (mX1_guestAt htr hT hw (Or.inl (fun _ h => h))) hd rfl ⟨0, _, _, mk_at (hT.at 0 rfl), rfl, rfl, fun _ => rfl⟩ ⟨rfl, by decide, by decide, by show _ = some 1; decide +kernel⟩ hw8 ⟨hdd, by decide⟩ jcc0 (fun r9 g9 h9 => by obtain ⟨rfl, rfl, h⟩ := h9; exact kk h) (fun E9 g9 h9 => by obtain ⟨_, h⟩ := h9; exact h.elim)
theorem uxX1_492 {G : jG} {l : Launch} {M : jM} {d c n pc : Nat} {lv : List (Nat × Value)} {rest : List Value} {post : Option Value → List jC → Prop} {xp : String → List jC → Prop} (hM : M.1.cls = RX1) (htr : l.stackTraces = false) {sh : List jH} {V : Nat → Nat → Int32} {R : Nat → Nat → Option Nat} {x : Nat} (hT : jReg shX1 sh x) {a1 : Int32} {X : String → Prop} (hd : decode M.2.1 pc = .ok (.invokevirtual 492, 3)) (hdd : 9 + 1 ≤ d) (hw8 : (rest.map fun v => v.category).sum ≤ 8) (hw : wX1_guestAt x V a1 False X) (hb : (∀ E, ¬ X E) ∨ 1 ≤ c ∧ 6 ≤ n) (kx : ∀ E, X E → JX G l M d 0 0 pc lv E (mk sh V R) post xp) : J G l M d c n pc lv (.int a1 :: .ref x :: rest) (mk sh V R) post xp := by
  exact J.callV (c := 0) (n := 0) (c' := c) (n' := n) (As := [.int a1]) (hcw := by rw [hM]; exact lw_V q1716 q1718 qs44 q144 q1719) (mX1_guestAt htr hT hw hb) hd rfl ⟨0, _, _, mk_at (hT.at 0 rfl), rfl, rfl, fun _ => rfl⟩ ⟨rfl, by decide, by decide, by show _ = some 1; decide +kernel⟩ hw8 ⟨hdd, by decide⟩ ⟨by omega, by omega⟩ (fun r9 g9 h9 => by obtain ⟨_, _, h⟩ := h9; exact h.elim) (fun E9 g9 h9 => by obtain ⟨rfl, h⟩ := h9; exact kx E9 h)
-- VisitingHours.mark(II)I
def wX1_mark (x : Nat) (sh : List jH) (V : Nat → Nat → Int32) (R : Nat → Nat → Option Nat) (c : Nat) (n : Nat) (a1 : Int32) (a2 : Int32) (Q : Int32 → List jH → (Nat → Nat → Int32) → (Nat → Nat → Option Nat) → Prop) (X : String → List jH → (Nat → Nat → Int32) → (Nat → Nat → Option Nat) → Prop) : Prop :=
  ((wX1_guestAt x V a1 ((wX1_in a2 (0 : Int32) (63 : Int32) (fun r9 => ((wX1_demand r9 ((∃ c116 n116 c216 n216 : Nat, c116 + c216 ≤ c ∧ n116 + n216 ≤ n ∧ (wX1_remembers x sh V R c116 n116 (fun sh16 V16 R16 => (jReg shX1 sh16 x ∧ (vp_in a1 8 ∧ (∀ y28 : Int32, y28 = (V16 ((x + 1) + 7) a1.toNatClampNeg) → (vp_in a1 8 ∧ Q y28 sh16 (vset V16 ((x + 1) + 7) a1.toNatClampNeg a2) R16)))))))) (fun _ => False)) ∨ (wX1_demand r9 False (fun E9 => X E9 sh V R) ∧ 1 ≤ c ∧ 6 ≤ n))))) (fun _ => False)) ∨ (wX1_guestAt x V a1 False (fun E9 => X E9 sh V R) ∧ 1 ≤ c ∧ 6 ≤ n))
theorem mX1_mark {G : jG} {l : Launch} {d : Nat} (htr : l.stackTraces = false) (hdd : 10 ≤ d) {sh : List jH} {V : Nat → Nat → Int32} {R : Nat → Nat → Option Nat} {c : Nat} {n : Nat} {x : Nat} (hT : jReg shX1 sh x) {a1 : Int32} {a2 : Int32} {Q : Int32 → List jH → (Nat → Nat → Int32) → (Nat → Nat → Option Nat) → Prop} {X : String → List jH → (Nat → Nat → Int32) → (Nat → Nat → Option Nat) → Prop} (hw : wX1_mark x sh V R c n a1 a2 Q X) : JM G l MX1_mark d c n [.ref x, .int a1, .int a2] (mk sh V R) (jSr Q) (jSx X) := by
  refine JM.intro (by decide) rfl htr (Nat.le_of_ble_eq_true rfl) ?_
  show J G l MX1_mark d c n 0 [(0, .ref x), (1, .int a1), (2, .int a2)] [] (mk sh V R) _ _
  unfold wX1_mark at hw
  refine J.aload_n 0 dX1_mark_0 rfl ?_
  refine J.iload_n 1 dX1_mark_1 rfl ?_
  rcases hw with hw | hw
  rotate_left
  · refine uxX1_492 rfl htr hT dX1_mark_2 (by omega) (Nat.le_of_ble_eq_true rfl) hw.1 (Or.inr hw.2) ?_
    exact fun E9 h9 => JX.out (by rfl) ⟨_, _, _, rfl, h9⟩
  refine uX1_492 rfl htr hT dX1_mark_2 (by omega) (Nat.le_of_ble_eq_true rfl) hw ?_
  clear hw
  intro hw
  refine J.iload_n 2 dX1_mark_5 rfl ?_
  refine J.iconst (v := (0 : Int32)) dX1_mark_6 (by decide) ?_
  refine J.bipush (v := (63 : Int32)) dX1_mark_7 (by decide) ?_
  refine uX1_124 rfl htr dX1_mark_9 (by omega) (Nat.le_of_ble_eq_true rfl) hw ?_
  clear hw
  intro r9 hw
  rcases hw with hw | hw
  rotate_left
  · refine uxX1_498 rfl htr dX1_mark_12 (by omega) (Nat.le_of_ble_eq_true rfl) hw.1 (Or.inr hw.2) ?_
    exact fun E9 h9 => JX.out (by rfl) ⟨_, _, _, rfl, h9⟩
  refine uX1_498 rfl htr dX1_mark_12 (by omega) (Nat.le_of_ble_eq_true rfl) hw ?_
  clear hw
  intro hw
  refine J.aload_n 0 dX1_mark_15 rfl ?_
  obtain ⟨c116, n116, c216, n216, hc16, hd16, hw⟩ := hw
  refine uX1_533 rfl htr hT dX1_mark_16 (by omega) (Nat.le_of_ble_eq_true rfl) hw ⟨hc16, hd16⟩ ?_
  clear hw
  intro sh16 V16 R16 hw
  clear hT
  obtain ⟨hT, hw⟩ := hw
  refine J.aload_n 0 dX1_mark_19 rfl ?_
  refine fgX1_10 rfl hT dX1_mark_20 ?_
  refine fgX1_178 rfl (hT.sub 1 36 rfl) dX1_mark_23 ?_
  refine J.iload_n 1 dX1_mark_26 rfl ?_
  obtain ⟨h27, hw⟩ := hw
  refine JV.iald dX1_mark_27 ((hT.sub 1 36 rfl).ge 7) ((hT.sub 1 36 rfl).at 7 rfl) h27 ?_
  refine J.nm hw ?_
  clear hw
  intro y28 hw
  refine J.istore_n (lv' := [(3, .int y28), (0, .ref x), (1, .int a1), (2, .int a2)]) dX1_mark_28 (by decide) rfl ?_
  refine J.aload_n 1 dX1_mark_29 rfl ?_
  refine fgX1_10 rfl hT dX1_mark_30 ?_
  refine fgX1_178 rfl (hT.sub 1 36 rfl) dX1_mark_33 ?_
  refine J.iload_n 2 dX1_mark_36 rfl ?_
  refine J.iload_n 3 dX1_mark_37 rfl ?_
  obtain ⟨h38, hw⟩ := hw
  refine JV.iast dX1_mark_38 ((hT.sub 1 36 rfl).ge 7) ((hT.sub 1 36 rfl).at 7 rfl) h38 ?_
  refine J.iload_n 0 dX1_mark_39 rfl ?_
  exact J.iret rfl dX1_mark_40 ⟨_, _, _, rfl, _, rfl, hw⟩
abbrev MX1_gate : jM := (yX1_gate, cX1_gate, 4, some .int, [])
-- VisitingHours.gate(II)I
def wX1_gate_25 (x : Nat) (a1 : Int32) (a2 : Int32) (Q : Int32 → List jH → (Nat → Nat → Int32) → (Nat → Nat → Option Nat) → Prop) (X : String → List jH → (Nat → Nat → Int32) → (Nat → Nat → Option Nat) → Prop) (sh : List jH) (V : Nat → Nat → Int32) (R : Nat → Nat → Option Nat) (c : Nat) (n : Nat) (s0 : Int32) : Prop :=
  ((wX1_demand s0 ((∃ c129 n129 c229 n229 : Nat, c129 + c229 ≤ c ∧ n129 + n229 ≤ n ∧ (wX1_remembers x sh V R c129 n129 (fun sh29 V29 R29 => (jReg shX1 sh29 x ∧ (∀ y50 : Int32, y50 = (((64 : Int32) * (V29 (x + 1) 4)) + (V29 (x + 1) 5)) → Q y50 sh29 (vset (vset V29 (x + 1) 4 a1) (x + 1) 5 a2) R29)))))) (fun _ => False)) ∨ (wX1_demand s0 False (fun E9 => X E9 sh V R) ∧ 1 ≤ c ∧ 6 ≤ n))
theorem rX1_gate_25 {G : jG} {l : Launch} {d : Nat} (htr : l.stackTraces = false) (hdd : 9 ≤ d) {x : Nat} {a1 : Int32} {a2 : Int32} {Q : Int32 → List jH → (Nat → Nat → Int32) → (Nat → Nat → Option Nat) → Prop} {X : String → List jH → (Nat → Nat → Int32) → (Nat → Nat → Option Nat) → Prop} {sh : List jH} {V : Nat → Nat → Int32} {R : Nat → Nat → Option Nat} {c : Nat} {n : Nat} {s0 : Int32} (hT : jReg shX1 sh x) (hw : wX1_gate_25 x a1 a2 Q X sh V R c n s0) : J G l MX1_gate d c n 25 [(0, .ref x), (1, .int a1), (2, .int a2)] [.int s0] (mk sh V R) (jSr Q) (jSx X) := by
  unfold wX1_gate_25 at hw
  rcases hw with hw | hw
  rotate_left
  · refine uxX1_498 rfl htr dX1_gate_25 (by omega) (Nat.le_of_ble_eq_true rfl) hw.1 (Or.inr hw.2) ?_
    exact fun E9 h9 => JX.out (by rfl) ⟨_, _, _, rfl, h9⟩
  refine uX1_498 rfl htr dX1_gate_25 (by omega) (Nat.le_of_ble_eq_true rfl) hw ?_
  clear hw
  intro hw
  refine J.aload_n 0 dX1_gate_28 rfl ?_
  obtain ⟨c129, n129, c229, n229, hc29, hd29, hw⟩ := hw
  refine uX1_533 rfl htr hT dX1_gate_29 (by omega) (Nat.le_of_ble_eq_true rfl) hw ⟨hc29, hd29⟩ ?_
  clear hw
  intro sh29 V29 R29 hw
  clear hT
  obtain ⟨hT, hw⟩ := hw
  refine J.bipush (v := (64 : Int32)) dX1_gate_32 (by decide) ?_
  refine J.aload_n 0 dX1_gate_34 rfl ?_
  refine fgX1_10 rfl hT dX1_gate_35 ?_
  refine fgX1_229 rfl (hT.sub 1 36 rfl) dX1_gate_38 ?_
  refine J.imul dX1_gate_41 ?_
  refine J.aload_n 0 dX1_gate_42 rfl ?_
  refine fgX1_10 rfl hT dX1_gate_43 ?_
  refine fgX1_231 rfl (hT.sub 1 36 rfl) dX1_gate_46 ?_
  refine J.iadd dX1_gate_49 ?_
  refine J.nm hw ?_
  clear hw
  intro y50 hw
  refine J.istore_n (lv' := [(3, .int y50), (0, .ref x), (1, .int a1), (2, .int a2)]) dX1_gate_50 (by decide) rfl ?_
  refine J.aload_n 1 dX1_gate_51 rfl ?_
  refine fgX1_10 rfl hT dX1_gate_52 ?_
  refine J.iload_n 2 dX1_gate_55 rfl ?_
  refine fpX1_229 rfl (hT.sub 1 36 rfl) dX1_gate_56 ?_
  refine J.aload_n 1 dX1_gate_59 rfl ?_
  refine fgX1_10 rfl hT dX1_gate_60 ?_
  refine J.iload_n 3 dX1_gate_63 rfl ?_
  refine fpX1_231 rfl (hT.sub 1 36 rfl) dX1_gate_64 ?_
  refine J.iload_n 0 dX1_gate_67 rfl ?_
  exact J.iret rfl dX1_gate_68 ⟨_, _, _, rfl, _, rfl, hw⟩
def wX1_gate_24 (x : Nat) (a1 : Int32) (a2 : Int32) (Q : Int32 → List jH → (Nat → Nat → Int32) → (Nat → Nat → Option Nat) → Prop) (X : String → List jH → (Nat → Nat → Int32) → (Nat → Nat → Option Nat) → Prop) (sh : List jH) (V : Nat → Nat → Int32) (R : Nat → Nat → Option Nat) (c : Nat) (n : Nat) : Prop :=
  wX1_gate_25 x a1 a2 Q X sh V R c n (0 : Int32)
theorem rX1_gate_24 {G : jG} {l : Launch} {d : Nat} (htr : l.stackTraces = false) (hdd : 9 ≤ d) {x : Nat} {a1 : Int32} {a2 : Int32} {Q : Int32 → List jH → (Nat → Nat → Int32) → (Nat → Nat → Option Nat) → Prop} {X : String → List jH → (Nat → Nat → Int32) → (Nat → Nat → Option Nat) → Prop} {sh : List jH} {V : Nat → Nat → Int32} {R : Nat → Nat → Option Nat} {c : Nat} {n : Nat} (hT : jReg shX1 sh x) (hw : wX1_gate_24 x a1 a2 Q X sh V R c n) : J G l MX1_gate d c n 24 [(0, .ref x), (1, .int a1), (2, .int a2)] [] (mk sh V R) (jSr Q) (jSx X) := by
  unfold wX1_gate_24 at hw
  refine J.iconst (v := (0 : Int32)) dX1_gate_24 (by decide) ?_
  exact (rX1_gate_25 htr hdd hT hw)
def wX1_gate (x : Nat) (sh : List jH) (V : Nat → Nat → Int32) (R : Nat → Nat → Option Nat) (c : Nat) (n : Nat) (a1 : Int32) (a2 : Int32) (Q : Int32 → List jH → (Nat → Nat → Int32) → (Nat → Nat → Option Nat) → Prop) (X : String → List jH → (Nat → Nat → Int32) → (Nat → Nat → Option Nat) → Prop) : Prop :=
  (wX1_in a1 (0 : Int32) (63 : Int32) (fun r4 => ((r4 = 0 → wX1_gate_24 x a1 a2 Q X sh V R c n) ∧ (¬ r4 = 0 → (wX1_in a2 (0 : Int32) (63 : Int32) (fun r14 => ((r14 = 0 → wX1_gate_24 x a1 a2 Q X sh V R c n) ∧ (¬ r14 = 0 → wX1_gate_25 x a1 a2 Q X sh V R c n (1 : Int32)))))))))
theorem mX1_gate {G : jG} {l : Launch} {d : Nat} (htr : l.stackTraces = false) (hdd : 9 ≤ d) {sh : List jH} {V : Nat → Nat → Int32} {R : Nat → Nat → Option Nat} {c : Nat} {n : Nat} {x : Nat} (hT : jReg shX1 sh x) {a1 : Int32} {a2 : Int32} {Q : Int32 → List jH → (Nat → Nat → Int32) → (Nat → Nat → Option Nat) → Prop} {X : String → List jH → (Nat → Nat → Int32) → (Nat → Nat → Option Nat) → Prop} (hw : wX1_gate x sh V R c n a1 a2 Q X) : JM G l MX1_gate d c n [.ref x, .int a1, .int a2] (mk sh V R) (jSr Q) (jSx X) := by
  refine JM.intro (by decide) rfl htr (Nat.le_of_ble_eq_true rfl) ?_
  show J G l MX1_gate d c n 0 [(0, .ref x), (1, .int a1), (2, .int a2)] [] (mk sh V R) _ _
  unfold wX1_gate at hw
  refine J.iload_n 1 dX1_gate_0 rfl ?_
  refine J.iconst (v := (0 : Int32)) dX1_gate_1 (by decide) ?_
  refine J.bipush (v := (63 : Int32)) dX1_gate_2 (by decide) ?_
  refine uX1_124 rfl htr dX1_gate_4 (by omega) (Nat.le_of_ble_eq_true rfl) hw ?_
  clear hw
  intro r4 hw
  refine J.if_eq 24 dX1_gate_7 (by decide) ⟨fun c7 => ?_, fun c7 => ?_⟩
  · obtain ⟨hw, -⟩ := hw
    specialize hw c7
    exact (rX1_gate_24 htr hdd hT hw)
  · obtain ⟨-, hw⟩ := hw
    specialize hw c7
    refine J.iload_n 2 dX1_gate_10 rfl ?_
    refine J.iconst (v := (0 : Int32)) dX1_gate_11 (by decide) ?_
    refine J.bipush (v := (63 : Int32)) dX1_gate_12 (by decide) ?_
    refine uX1_124 rfl htr dX1_gate_14 (by omega) (Nat.le_of_ble_eq_true rfl) hw ?_
    clear hw
    intro r14 hw
    refine J.if_eq 24 dX1_gate_17 (by decide) ⟨fun c17 => ?_, fun c17 => ?_⟩
    · obtain ⟨hw, -⟩ := hw
      specialize hw c17
      exact (rX1_gate_24 htr hdd hT hw)
    · obtain ⟨-, hw⟩ := hw
      specialize hw c17
      refine J.iconst (v := (1 : Int32)) dX1_gate_20 (by decide) ?_
      refine J.goto 25 dX1_gate_21 (by decide) ?_
      exact (rX1_gate_25 htr hdd hT hw)
abbrev MX1_value : jM := (yX1_value, cX1_value, 6, some .int, [])
-- VisitingHours.value(IIZI)I
def wX1_value_54 (x : Nat) (a1 : Int32) (a2 : Int32) (a3 : Int32) (a4 : Int32) (Q : Int32 → List jH → (Nat → Nat → Int32) → (Nat → Nat → Option Nat) → Prop) (X : String → List jH → (Nat → Nat → Int32) → (Nat → Nat → Option Nat) → Prop) (sh : List jH) (V : Nat → Nat → Int32) (R : Nat → Nat → Option Nat) (c : Nat) (n : Nat) (s0 : Int32) : Prop :=
  ((a3 = 0 → (vp_in a2 8 ∧ (vp_in a1 8 ∧ Q s0 sh (vset V (((x + 1) + 17) + 1 + a2.toNatClampNeg) a1.toNatClampNeg a4) R))) ∧ (¬ a3 = 0 → (vp_in a1 8 ∧ (vp_in a2 8 ∧ Q s0 sh (vset V (((x + 1) + 8) + 1 + a1.toNatClampNeg) a2.toNatClampNeg a4) R))))
theorem rX1_value_54 {G : jG} {l : Launch} {d : Nat} (htr : l.stackTraces = false) (hdd : 10 ≤ d) {x : Nat} {a1 : Int32} {a2 : Int32} {a3 : Int32} {a4 : Int32} {Q : Int32 → List jH → (Nat → Nat → Int32) → (Nat → Nat → Option Nat) → Prop} {X : String → List jH → (Nat → Nat → Int32) → (Nat → Nat → Option Nat) → Prop} {sh : List jH} {V : Nat → Nat → Int32} {R : Nat → Nat → Option Nat} {c : Nat} {n : Nat} {s0 : Int32} (hT : jReg shX1 sh x) (hw : wX1_value_54 x a1 a2 a3 a4 Q X sh V R c n s0) : J G l MX1_value d c n 54 [(0, .ref x), (1, .int a1), (2, .int a2), (3, .int a3), (4, .int a4)] [.int s0] (mk sh V R) (jSr Q) (jSx X) := by
  unfold wX1_value_54 at hw
  refine J.istore (lv' := [(5, .int s0), (0, .ref x), (1, .int a1), (2, .int a2), (3, .int a3), (4, .int a4)]) dX1_value_54 (by decide) rfl ?_
  refine J.iload_n 4 dX1_value_56 rfl ?_
  refine J.if_eq 76 dX1_value_57 (by decide) ⟨fun c57 => ?_, fun c57 => ?_⟩
  · obtain ⟨hw, -⟩ := hw
    specialize hw c57
    refine J.aload_n 1 dX1_value_76 rfl ?_
    refine fgX1_10 rfl hT dX1_value_77 ?_
    refine fgX1_165 rfl (hT.sub 1 36 rfl) dX1_value_80 ?_
    refine J.iload_n 3 dX1_value_83 rfl ?_
    obtain ⟨h84, hw⟩ := hw
    refine JV.grid dX1_value_84 ((hT.sub 1 36 rfl).ge 17) ((hT.sub 1 36 rfl).at 17 rfl) h84 ?_
    refine J.iload_n 2 dX1_value_85 rfl ?_
    refine J.iload 5 dX1_value_86 rfl ?_
    obtain ⟨h88, hw⟩ := hw
    refine JV.iast dX1_value_88 (jrowg (hT.sub 1 36 rfl).1) (jrowV (hT.sub 1 36 rfl) h84) h88 ?_
    refine J.iload 0 dX1_value_89 rfl ?_
    exact J.iret rfl dX1_value_91 ⟨_, _, _, rfl, _, rfl, hw⟩
  · obtain ⟨-, hw⟩ := hw
    specialize hw c57
    refine J.aload_n 1 dX1_value_60 rfl ?_
    refine fgX1_10 rfl hT dX1_value_61 ?_
    refine fgX1_155 rfl (hT.sub 1 36 rfl) dX1_value_64 ?_
    refine J.iload_n 2 dX1_value_67 rfl ?_
    obtain ⟨h68, hw⟩ := hw
    refine JV.grid dX1_value_68 ((hT.sub 1 36 rfl).ge 8) ((hT.sub 1 36 rfl).at 8 rfl) h68 ?_
    refine J.iload_n 3 dX1_value_69 rfl ?_
    refine J.iload 5 dX1_value_70 rfl ?_
    obtain ⟨h72, hw⟩ := hw
    refine JV.iast dX1_value_72 (jrowg (hT.sub 1 36 rfl).1) (jrowL (hT.sub 1 36 rfl) h68) h72 ?_
    refine J.goto 89 dX1_value_73 (by decide) ?_
    refine J.iload 0 dX1_value_89 rfl ?_
    exact J.iret rfl dX1_value_91 ⟨_, _, _, rfl, _, rfl, hw⟩
def wX1_value (x : Nat) (sh : List jH) (V : Nat → Nat → Int32) (R : Nat → Nat → Option Nat) (c : Nat) (n : Nat) (a1 : Int32) (a2 : Int32) (a3 : Int32) (a4 : Int32) (Q : Int32 → List jH → (Nat → Nat → Int32) → (Nat → Nat → Option Nat) → Prop) (X : String → List jH → (Nat → Nat → Int32) → (Nat → Nat → Option Nat) → Prop) : Prop :=
  ((wX1_hostAt x V a1 (((wX1_guestAt x V a2 ((wX1_in a4 (0 : Int32) (9 : Int32) (fun r15 => ((wX1_demand r15 ((∃ c122 n122 c222 n222 : Nat, c122 + c222 ≤ c ∧ n122 + n222 ≤ n ∧ (wX1_remembers x sh V R c122 n122 (fun sh22 V22 R22 => (jReg shX1 sh22 x ∧ ((a3 = 0 → (vp_in a2 8 ∧ (vp_in a1 8 ∧ wX1_value_54 x a1 a2 a3 a4 Q X sh22 V22 R22 c222 n222 (V22 (((x + 1) + 17) + 1 + a2.toNatClampNeg) a1.toNatClampNeg)))) ∧ (¬ a3 = 0 → (vp_in a1 8 ∧ (vp_in a2 8 ∧ wX1_value_54 x a1 a2 a3 a4 Q X sh22 V22 R22 c222 n222 (V22 (((x + 1) + 8) + 1 + a1.toNatClampNeg) a2.toNatClampNeg)))))))))) (fun _ => False)) ∨ (wX1_demand r15 False (fun E9 => X E9 sh V R) ∧ 1 ≤ c ∧ 6 ≤ n))))) (fun _ => False)) ∨ (wX1_guestAt x V a2 False (fun E9 => X E9 sh V R) ∧ 1 ≤ c ∧ 6 ≤ n))) (fun _ => False)) ∨ (wX1_hostAt x V a1 False (fun E9 => X E9 sh V R) ∧ 1 ≤ c ∧ 6 ≤ n))
theorem mX1_value {G : jG} {l : Launch} {d : Nat} (htr : l.stackTraces = false) (hdd : 10 ≤ d) {sh : List jH} {V : Nat → Nat → Int32} {R : Nat → Nat → Option Nat} {c : Nat} {n : Nat} {x : Nat} (hT : jReg shX1 sh x) {a1 : Int32} {a2 : Int32} {a3 : Int32} {a4 : Int32} {Q : Int32 → List jH → (Nat → Nat → Int32) → (Nat → Nat → Option Nat) → Prop} {X : String → List jH → (Nat → Nat → Int32) → (Nat → Nat → Option Nat) → Prop} (hw : wX1_value x sh V R c n a1 a2 a3 a4 Q X) : JM G l MX1_value d c n [.ref x, .int a1, .int a2, .int a3, .int a4] (mk sh V R) (jSr Q) (jSx X) := by
  refine JM.intro (by decide) rfl htr (Nat.le_of_ble_eq_true rfl) ?_
  show J G l MX1_value d c n 0 [(0, .ref x), (1, .int a1), (2, .int a2), (3, .int a3), (4, .int a4)] [] (mk sh V R) _ _
  unfold wX1_value at hw
  refine J.aload_n 0 dX1_value_0 rfl ?_
  refine J.iload_n 1 dX1_value_1 rfl ?_
  rcases hw with hw | hw
  rotate_left
  · refine uxX1_489 rfl htr hT dX1_value_2 (by omega) (Nat.le_of_ble_eq_true rfl) hw.1 (Or.inr hw.2) ?_
    exact fun E9 h9 => JX.out (by rfl) ⟨_, _, _, rfl, h9⟩
  refine uX1_489 rfl htr hT dX1_value_2 (by omega) (Nat.le_of_ble_eq_true rfl) hw ?_
  clear hw
  intro hw
  refine J.aload_n 0 dX1_value_5 rfl ?_
  refine J.iload_n 2 dX1_value_6 rfl ?_
  rcases hw with hw | hw
  rotate_left
  · refine uxX1_492 rfl htr hT dX1_value_7 (by omega) (Nat.le_of_ble_eq_true rfl) hw.1 (Or.inr hw.2) ?_
    exact fun E9 h9 => JX.out (by rfl) ⟨_, _, _, rfl, h9⟩
  refine uX1_492 rfl htr hT dX1_value_7 (by omega) (Nat.le_of_ble_eq_true rfl) hw ?_
  clear hw
  intro hw
  refine J.iload 4 dX1_value_10 rfl ?_
  refine J.iconst (v := (0 : Int32)) dX1_value_12 (by decide) ?_
  refine J.bipush (v := (9 : Int32)) dX1_value_13 (by decide) ?_
  refine uX1_124 rfl htr dX1_value_15 (by omega) (Nat.le_of_ble_eq_true rfl) hw ?_
  clear hw
  intro r15 hw
  rcases hw with hw | hw
  rotate_left
  · refine uxX1_498 rfl htr dX1_value_18 (by omega) (Nat.le_of_ble_eq_true rfl) hw.1 (Or.inr hw.2) ?_
    exact fun E9 h9 => JX.out (by rfl) ⟨_, _, _, rfl, h9⟩
  refine uX1_498 rfl htr dX1_value_18 (by omega) (Nat.le_of_ble_eq_true rfl) hw ?_
  clear hw
  intro hw
  refine J.aload_n 0 dX1_value_21 rfl ?_
  obtain ⟨c122, n122, c222, n222, hc22, hd22, hw⟩ := hw
  refine uX1_533 rfl htr hT dX1_value_22 (by omega) (Nat.le_of_ble_eq_true rfl) hw ⟨hc22, hd22⟩ ?_
  clear hw
  intro sh22 V22 R22 hw
  clear hT
  obtain ⟨hT, hw⟩ := hw
  refine J.iload_n 3 dX1_value_25 rfl ?_
  refine J.if_eq 43 dX1_value_26 (by decide) ⟨fun c26 => ?_, fun c26 => ?_⟩
  · obtain ⟨hw, -⟩ := hw
    specialize hw c26
    refine J.aload_n 0 dX1_value_43 rfl ?_
    refine fgX1_10 rfl hT dX1_value_44 ?_
    refine fgX1_165 rfl (hT.sub 1 36 rfl) dX1_value_47 ?_
    refine J.iload_n 2 dX1_value_50 rfl ?_
    obtain ⟨h51, hw⟩ := hw
    refine JV.grid dX1_value_51 ((hT.sub 1 36 rfl).ge 17) ((hT.sub 1 36 rfl).at 17 rfl) h51 ?_
    refine J.iload_n 1 dX1_value_52 rfl ?_
    obtain ⟨h53, hw⟩ := hw
    refine JV.iald dX1_value_53 (jrowg (hT.sub 1 36 rfl).1) (jrowV (hT.sub 1 36 rfl) h51) h53 ?_
    exact (rX1_value_54 htr hdd hT hw)
  · obtain ⟨-, hw⟩ := hw
    specialize hw c26
    refine J.aload_n 0 dX1_value_29 rfl ?_
    refine fgX1_10 rfl hT dX1_value_30 ?_
    refine fgX1_155 rfl (hT.sub 1 36 rfl) dX1_value_33 ?_
    refine J.iload_n 1 dX1_value_36 rfl ?_
    obtain ⟨h37, hw⟩ := hw
    refine JV.grid dX1_value_37 ((hT.sub 1 36 rfl).ge 8) ((hT.sub 1 36 rfl).at 8 rfl) h37 ?_
    refine J.iload_n 2 dX1_value_38 rfl ?_
    obtain ⟨h39, hw⟩ := hw
    refine JV.iald dX1_value_39 (jrowg (hT.sub 1 36 rfl).1) (jrowL (hT.sub 1 36 rfl) h37) h39 ?_
    refine J.goto 54 dX1_value_40 (by decide) ?_
    exact (rX1_value_54 htr hdd hT hw)
theorem fgX1_456 {G : jG} {l : Launch} {M : jM} {d c n pc : Nat} {lv : List (Nat × Value)} {st : List Value} {sh : List jH} {V : Nat → Nat → Int32} {R : Nat → Nat → Option Nat} {post : Option Value → List jC → Prop} {xp : String → List jC → Prop} {x : Nat} (hM : M.1.cls = RX1) (hT : jReg shX1 sh x) (hd : decode M.2.1 pc = .ok (.getfield 456, 3)) (kk : J G l M d c n (pc + 3) lv (.int (V x 6) :: st) (mk sh V R) post xp) : J G l M d c n pc lv (.ref x :: st) (mk sh V R) post xp := JV.getf (C := RX1) (T0 := TX1) (N := 16) 6 hd hT.1 (hT.at 0 rfl) rfl in_X1 (by decide) (by rw [hM]; exact q439) rfl rfl kk
theorem fpX1_456 {G : jG} {l : Launch} {M : jM} {d c n pc : Nat} {lv : List (Nat × Value)} {st : List Value} {sh : List jH} {V : Nat → Nat → Int32} {R : Nat → Nat → Option Nat} {post : Option Value → List jC → Prop} {xp : String → List jC → Prop} {x : Nat} (hM : M.1.cls = RX1) (hT : jReg shX1 sh x) {x9 : Int32} (hd : decode M.2.1 pc = .ok (.putfield 456, 3)) (kk : J G l M d c n (pc + 3) lv st (mk sh (vset V x 6 x9) R) post xp) : J G l M d c n pc lv (.int x9 :: .ref x :: st) (mk sh V R) post xp := JV.puti (C := RX1) (T0 := TX1) (N := 16) (o := 0) 6 hd hT.1 (hT.at 0 rfl) rfl in_X1 tyX1 tyX1_ok nmX1 (by decide) (by rw [hM]; exact q439) rfl rfl (ji_put x9) rfl kk
abbrev MX1_meets : jM := (yX1_meets, cX1_meets, 8, some .int, [])
theorem uX1_452 {G : jG} {l : Launch} {M : jM} {d c n pc : Nat} {lv : List (Nat × Value)} {rest : List Value} {post : Option Value → List jC → Prop} {xp : String → List jC → Prop} (hM : M.1.cls = RX1) (htr : l.stackTraces = false) {sh : List jH} {V : Nat → Nat → Int32} {R : Nat → Nat → Option Nat} {w : Nat} (hT : jReg shX2 sh w) {a1 : Int32} {a2 : Int32} {a3 : Int32} {a4 : Int32} {a5 : Int32} {Q : (Nat → Nat → Int32) → Prop} (hd : decode M.2.1 pc = .ok (.invokevirtual 452, 3)) (hdd : 2 + 1 ≤ d) (hw8 : (rest.map fun v => v.category).sum ≤ 8) (hw : wX2_tells w V a1 a2 a3 a4 a5 Q) (kk : ∀ V', Q V' → J G l M d c n (pc + 3) lv rest (mk sh V' R) post xp) : J G l M d c n pc lv (.int a5 :: .int a4 :: .int a3 :: .int a2 :: .int a1 :: .ref w :: rest) (mk sh V R) post xp := by
  exact J.callV (As := [.int a1, .int a2, .int a3, .int a4, .int a5]) (hcw := by rw [hM]; exact lw_V q1859 q1860 q1861 q145 q1862) (mX2_tells htr hT hw) hd rfl ⟨1, _, _, mk_at (hT.at 0 rfl), rfl, rfl, fun _ => rfl⟩ ⟨rfl, by decide, by decide, by show _ = some 5; decide +kernel⟩ hw8 ⟨hdd, by decide⟩ jcc0 (fun r9 g9 h9 => by obtain ⟨V9, rfl, rfl, h⟩ := h9; exact kk V9 h) jNo.x
-- VisitingHours.meets(LVisitingHours$World;IZ)I
def wX1_meets_91 (x : Nat) (w1 : Nat) (sh : List jH) (R : Nat → Nat → Option Nat) (a2 : Int32) (a3 : Int32) (Q : Int32 → (Nat → Nat → Int32) → Prop) (K6 : (Nat → Nat → Int32) → Int32 → Int32 → Prop) (V : Nat → Nat → Int32) (x4 : Int32) (x5 : Int32) : Prop :=
  (∀ y101 : Int32, y101 = ((V x 6) ||| ((1 : Int32) <<< (x5 &&& 31))) → (∀ y104 : Int32, y104 = x4 + (1 : Int32) → (∀ y107 : Int32, y107 = x5 + (1 : Int32) → K6 (vset V x 6 y101) y104 y107)))
theorem rX1_meets_91 {G : jG} {l : Launch} {d : Nat} {c n : Nat} (htr : l.stackTraces = false) (hdd : 43 ≤ d) {sh : List jH} {R : Nat → Nat → Option Nat} {x : Nat} {w1 : Nat} (hT : jReg shX1 sh x) (hW1 : jReg shX2 sh w1) {a2 : Int32} {a3 : Int32} {Q : Int32 → (Nat → Nat → Int32) → Prop} {K6 : (Nat → Nat → Int32) → Int32 → Int32 → Prop} (hK6 : ∀ (V : Nat → Nat → Int32) (x4 : Int32) (x5 : Int32), K6 V x4 x5 → J G l MX1_meets d c n 6 [(0, .ref x), (1, .ref w1), (2, .int a2), (3, .int a3), (4, .int x4), (5, .int x5)] [] (mk sh V R) (jWr sh R Q) jNo) {V : Nat → Nat → Int32} {x4 : Int32} {x5 : Int32} (hw : wX1_meets_91 x w1 sh R a2 a3 Q K6 V x4 x5) : J G l MX1_meets d c n 91 [(0, .ref x), (1, .ref w1), (2, .int a2), (3, .int a3), (4, .int x4), (5, .int x5)] [] (mk sh V R) (jWr sh R Q) jNo := by
  unfold wX1_meets_91 at hw
  refine J.aload_n 0 dX1_meets_91 rfl ?_
  refine J.dup dX1_meets_92 rfl ?_
  refine fgX1_456 rfl hT dX1_meets_93 ?_
  refine J.iconst (v := (1 : Int32)) dX1_meets_96 (by decide) ?_
  refine J.iload 5 dX1_meets_97 rfl ?_
  refine J.ishl dX1_meets_99 ?_
  refine J.ior dX1_meets_100 ?_
  refine J.nm hw ?_
  clear hw
  intro y101 hw
  refine fpX1_456 rfl hT dX1_meets_101 ?_
  refine J.iincN 4 (K := (1 : Int32)) (lv' := fun y104 => [(4, .int y104), (0, .ref x), (1, .ref w1), (2, .int a2), (3, .int a3), (5, .int x5)]) dX1_meets_104 rfl (by decide) (by decide) (fun _ => rfl) hw ?_
  clear hw
  intro y104 hw
  refine J.iincN 5 (K := (1 : Int32)) (lv' := fun y107 => [(5, .int y107), (4, .int y104), (0, .ref x), (1, .ref w1), (2, .int a2), (3, .int a3)]) dX1_meets_107 rfl (by decide) (by decide) (fun _ => rfl) hw ?_
  clear hw
  intro y107 hw
  refine J.goto 6 dX1_meets_110 (by decide) ?_
  exact J.pick [2, 3, 4, 5, 1, 0] rfl (hK6 _ _ _ hw)
def wX1_meets_6 (x : Nat) (w1 : Nat) (sh : List jH) (R : Nat → Nat → Option Nat) (a2 : Int32) (a3 : Int32) (Q : Int32 → (Nat → Nat → Int32) → Prop) : Nat → (Nat → Nat → Int32) → Int32 → Int32 → Prop
  | 0, _, _, _ => False
  | f + 1, V, x4, x5 =>
    (((V w1 1) ≤ x5 → Q x4 V) ∧ (¬ (V w1 1) ≤ x5 → (wX1_wouldMeet x w1 sh R V x5 a2 (fun r20 V20 => ((¬ r20 = 0 → (vp_in x5 8 ∧ (vp_in a2 8 ∧ (∀ y38 : Int32, y38 = (V20 ((w1 + 26) + 1 + x5.toNatClampNeg) a2.toNatClampNeg) → (wX1_joyBy x w1 sh R V20 x5 y38 a2 (fun r47 V47 => (vp_in x5 8 ∧ (∀ y74 : Int32, y74 = (if ((V47 (w1 + 3) x5.toNatClampNeg) + r47) < (999 : Int32) then ((V47 (w1 + 3) x5.toNatClampNeg) + r47) else (999 : Int32)) → (vp_in x5 8 ∧ ((a3 = 0 → wX1_meets_91 x w1 sh R a2 a3 Q (fun V x4 x5 => wX1_meets_6 x w1 sh R a2 a3 Q f V x4 x5) (vset V47 (w1 + 3) x5.toNatClampNeg y74) x4 x5) ∧ (¬ a3 = 0 → (wX2_tells w1 (vset V47 (w1 + 3) x5.toNatClampNeg y74) x5 y38 a2 (0 : Int32) r47 (fun V88 => wX1_meets_91 x w1 sh R a2 a3 Q (fun V x4 x5 => wX1_meets_6 x w1 sh R a2 a3 Q f V x4 x5) V88 x4 x5))))))))))))) ∧ (r20 = 0 → (∀ y107 : Int32, y107 = x5 + (1 : Int32) → wX1_meets_6 x w1 sh R a2 a3 Q f V20 x4 y107)))))))
theorem rX1_meets_6 {G : jG} {l : Launch} {d : Nat} {c n : Nat} (htr : l.stackTraces = false) (hdd : 43 ≤ d) {sh : List jH} {R : Nat → Nat → Option Nat} {x : Nat} {w1 : Nat} (hT : jReg shX1 sh x) (hW1 : jReg shX2 sh w1) {a2 : Int32} {a3 : Int32} {Q : Int32 → (Nat → Nat → Int32) → Prop} : ∀ (f : Nat) (V : Nat → Nat → Int32) (x4 : Int32) (x5 : Int32), wX1_meets_6 x w1 sh R a2 a3 Q f V x4 x5 → J G l MX1_meets d c n 6 [(0, .ref x), (1, .ref w1), (2, .int a2), (3, .int a3), (4, .int x4), (5, .int x5)] [] (mk sh V R) (jWr sh R Q) jNo := by
  intro f
  induction f with
  | zero =>
    intro V x4 x5 hw
    rw [wX1_meets_6] at hw
    exact hw.elim
  | succ f ih =>
    intro V x4 x5 hw
    rw [wX1_meets_6] at hw
    refine J.iload 5 dX1_meets_6 rfl ?_
    refine J.aload_n 1 dX1_meets_8 rfl ?_
    refine fgX1_132 rfl hW1 dX1_meets_9 ?_
    refine J.icmp_ge 113 dX1_meets_12 (by decide) ⟨fun c12 => ?_, fun c12 => ?_⟩
    · obtain ⟨hw, -⟩ := hw
      specialize hw c12
      refine J.iload 4 dX1_meets_113 rfl ?_
      exact J.iret rfl dX1_meets_115 ⟨_, rfl, _, rfl, hw⟩
    · obtain ⟨-, hw⟩ := hw
      specialize hw c12
      refine J.aload_n 0 dX1_meets_15 rfl ?_
      refine J.aload_n 1 dX1_meets_16 rfl ?_
      refine J.iload 5 dX1_meets_17 rfl ?_
      refine J.iload_n 2 dX1_meets_19 rfl ?_
      refine uX1_439 rfl htr hT hW1 dX1_meets_20 (by omega) (Nat.le_of_ble_eq_true rfl) hw ?_
      clear hw
      intro r20 V20 hw
      refine J.if_ne 29 dX1_meets_23 (by decide) ⟨fun c23 => ?_, fun c23 => ?_⟩
      · obtain ⟨hw, -⟩ := hw
        specialize hw c23
        refine J.aload_n 1 dX1_meets_29 rfl ?_
        refine fgX1_415 rfl hW1 dX1_meets_30 ?_
        refine J.iload 5 dX1_meets_33 rfl ?_
        obtain ⟨h35, hw⟩ := hw
        refine JV.grid dX1_meets_35 (hW1.ge 26) (hW1.at 26 rfl) h35 ?_
        refine J.iload_n 2 dX1_meets_36 rfl ?_
        obtain ⟨h37, hw⟩ := hw
        refine JV.iald dX1_meets_37 (jrowg hW1.1) (jrowB hW1 h35) h37 ?_
        refine J.nm hw ?_
        clear hw
        intro y38 hw
        refine J.istore (lv' := [(6, .int y38), (0, .ref x), (1, .ref w1), (2, .int a2), (3, .int a3), (4, .int x4), (5, .int x5)]) dX1_meets_38 (by decide) rfl ?_
        refine J.aload_n 1 dX1_meets_40 rfl ?_
        refine J.aload_n 2 dX1_meets_41 rfl ?_
        refine J.iload 6 dX1_meets_42 rfl ?_
        refine J.iload 0 dX1_meets_44 rfl ?_
        refine J.iload_n 3 dX1_meets_46 rfl ?_
        refine uX1_443 rfl htr hT hW1 dX1_meets_47 (by omega) (Nat.le_of_ble_eq_true rfl) hw ?_
        clear hw
        intro r47 V47 hw
        refine J.istore (lv' := [(7, .int r47), (6, .int y38), (0, .ref x), (1, .ref w1), (2, .int a2), (3, .int a3), (4, .int x4), (5, .int x5)]) dX1_meets_50 (by decide) rfl ?_
        refine J.aload_n 3 dX1_meets_52 rfl ?_
        refine fgX1_145 rfl hW1 dX1_meets_53 ?_
        refine J.iload 7 dX1_meets_56 rfl ?_
        refine J.sipush (v := (999 : Int32)) dX1_meets_58 (by decide) ?_
        refine J.aload_n 3 dX1_meets_61 rfl ?_
        refine fgX1_145 rfl hW1 dX1_meets_62 ?_
        refine J.iload 7 dX1_meets_65 rfl ?_
        obtain ⟨h67, hw⟩ := hw
        refine JV.iald dX1_meets_67 (hW1.ge 3) (hW1.at 3 rfl) h67 ?_
        refine J.iload 0 dX1_meets_68 rfl ?_
        refine J.iadd dX1_meets_70 ?_
        refine J.mmin dX1_meets_71 q1858 q911 q159 q912 (Nat.le_of_ble_eq_true rfl) (by omega) ?_
        refine J.nm hw ?_
        clear hw
        intro y74 hw
        obtain ⟨h74, hw⟩ := hw
        refine JV.iast dX1_meets_74 (hW1.ge 3) (hW1.at 3 rfl) h74 ?_
        refine J.iload_n 5 dX1_meets_75 rfl ?_
        refine J.if_eq 91 dX1_meets_76 (by decide) ⟨fun c76 => ?_, fun c76 => ?_⟩
        · obtain ⟨hw, -⟩ := hw
          specialize hw c76
          exact J.pick [2, 3, 4, 5, 6, 7] rfl (rX1_meets_91 htr hdd hT hW1 ih hw)
        · obtain ⟨-, hw⟩ := hw
          specialize hw c76
          refine J.aload_n 3 dX1_meets_79 rfl ?_
          refine J.iload 7 dX1_meets_80 rfl ?_
          refine J.iload 1 dX1_meets_82 rfl ?_
          refine J.iload_n 4 dX1_meets_84 rfl ?_
          refine J.iconst (v := (0 : Int32)) dX1_meets_85 (by decide) ?_
          refine J.iload 0 dX1_meets_86 rfl ?_
          refine uX1_452 rfl htr hW1 dX1_meets_88 (by omega) (Nat.le_of_ble_eq_true rfl) hw ?_
          clear hw
          intro V88 hw
          exact J.pick [2, 3, 4, 5, 6, 7] rfl (rX1_meets_91 htr hdd hT hW1 ih hw)
      · obtain ⟨-, hw⟩ := hw
        specialize hw c23
        refine J.goto 107 dX1_meets_26 (by decide) ?_
        refine J.iincN 5 (K := (1 : Int32)) (lv' := fun y107 => [(5, .int y107), (0, .ref x), (1, .ref w1), (2, .int a2), (3, .int a3), (4, .int x4)]) dX1_meets_107 rfl (by decide) (by decide) (fun _ => rfl) hw ?_
        clear hw
        intro y107 hw
        refine J.goto 6 dX1_meets_110 (by decide) ?_
        exact J.pick [1, 2, 3, 4, 5, 0] rfl (ih _ _ _ hw)
def wX1_meets (x : Nat) (w1 : Nat) (sh : List jH) (R : Nat → Nat → Option Nat) (V : Nat → Nat → Int32) (a2 : Int32) (a3 : Int32) (Q : Int32 → (Nat → Nat → Int32) → Prop) : Prop :=
  (∃ f9, wX1_meets_6 x w1 sh R a2 a3 Q f9 V (0 : Int32) (0 : Int32))
theorem mX1_meets {G : jG} {l : Launch} {d : Nat} (htr : l.stackTraces = false) (hdd : 43 ≤ d) {sh : List jH} {R : Nat → Nat → Option Nat} {V : Nat → Nat → Int32} {x : Nat} {w1 : Nat} (hT : jReg shX1 sh x) (hW1 : jReg shX2 sh w1) {a2 : Int32} {a3 : Int32} {Q : Int32 → (Nat → Nat → Int32) → Prop} (hw : wX1_meets x w1 sh R V a2 a3 Q) : JM G l MX1_meets d 0 0 [.ref x, .ref w1, .int a2, .int a3] (mk sh V R) (jWr sh R Q) jNo := by
  refine JM.intro (by decide) rfl htr (Nat.le_of_ble_eq_true rfl) ?_
  show J G l MX1_meets d 0 0 0 [(0, .ref x), (1, .ref w1), (2, .int a2), (3, .int a3)] [] (mk sh V R) _ _
  unfold wX1_meets at hw
  refine J.iconst (v := (0 : Int32)) dX1_meets_0 (by decide) ?_
  refine J.istore (lv' := [(4, .int (0 : Int32)), (0, .ref x), (1, .ref w1), (2, .int a2), (3, .int a3)]) dX1_meets_1 (by decide) rfl ?_
  refine J.iconst (v := (0 : Int32)) dX1_meets_3 (by decide) ?_
  refine J.istore (lv' := [(5, .int (0 : Int32)), (4, .int (0 : Int32)), (0, .ref x), (1, .ref w1), (2, .int a2), (3, .int a3)]) dX1_meets_4 (by decide) rfl ?_
  obtain ⟨f9, hw⟩ := hw
  exact J.pick [2, 3, 4, 5, 1, 0] rfl (rX1_meets_6 htr hdd hT hW1 f9 _ _ _ hw)
abbrev MX1_aWeek : jM := (yX1_aWeek, cX1_aWeek, 7, some .int, [])
theorem uX1_459 {G : jG} {l : Launch} {M : jM} {d c n pc : Nat} {lv : List (Nat × Value)} {rest : List Value} {post : Option Value → List jC → Prop} {xp : String → List jC → Prop} (hM : M.1.cls = RX1) (htr : l.stackTraces = false) {sh : List jH} {V : Nat → Nat → Int32} {R : Nat → Nat → Option Nat} {w : Nat} (hT : jReg shX2 sh w) {a1 : Int32} {Q : Int32 → (Nat → Nat → Int32) → Prop} (hd : decode M.2.1 pc = .ok (.invokevirtual 459, 3)) (hdd : 0 + 1 ≤ d) (hw8 : (rest.map fun v => v.category).sum ≤ 8) (hw : wX2_draw w V a1 Q) (kk : ∀ r V', Q r V' → J G l M d c n (pc + 3) lv (.int r :: rest) (mk sh V' R) post xp) : J G l M d c n pc lv (.int a1 :: .ref w :: rest) (mk sh V R) post xp := by
  exact J.callV (As := [.int a1]) (hcw := by rw [hM]; exact lw_V q1849 q1850 q1851 q145 q1852) (mX2_draw htr hT hw) hd rfl ⟨1, _, _, mk_at (hT.at 0 rfl), rfl, rfl, fun _ => rfl⟩ ⟨rfl, by decide, by decide, by show _ = some 1; decide +kernel⟩ hw8 ⟨hdd, by decide⟩ jcc0 (fun r9 g9 h9 => by obtain ⟨V9, rfl, r, rfl, h⟩ := h9; exact kk r V9 h) jNo.x
theorem uX1_462 {G : jG} {l : Launch} {M : jM} {d c n pc : Nat} {lv : List (Nat × Value)} {rest : List Value} {post : Option Value → List jC → Prop} {xp : String → List jC → Prop} (hM : M.1.cls = RX1) (htr : l.stackTraces = false) {sh : List jH} {V : Nat → Nat → Int32} {R : Nat → Nat → Option Nat} {x : Nat} {w1 : Nat} (hT : jReg shX1 sh x) (hW1 : jReg shX2 sh w1) {a2 : Int32} {a3 : Int32} {Q : Int32 → (Nat → Nat → Int32) → Prop} (hd : decode M.2.1 pc = .ok (.invokevirtual 462, 3)) (hdd : 43 + 1 ≤ d) (hw8 : (rest.map fun v => v.category).sum ≤ 8) (hw : wX1_meets x w1 sh R V a2 a3 Q) (kk : ∀ r V', Q r V' → J G l M d c n (pc + 3) lv (.int r :: rest) (mk sh V' R) post xp) : J G l M d c n pc lv (.int a3 :: .int a2 :: .ref w1 :: .ref x :: rest) (mk sh V R) post xp := by
  exact J.callV (As := [.ref w1, .int a2, .int a3]) (hcw := by rw [hM]; exact lw_V q1854 q1856 qs49 q144 q1857) (mX1_meets htr (Nat.le_refl _) hT hW1 hw) hd rfl ⟨0, _, _, mk_at (hT.at 0 rfl), rfl, rfl, fun _ => rfl⟩ ⟨rfl, by decide, by decide, by show _ = some 3; decide +kernel⟩ hw8 ⟨hdd, by decide⟩ jcc0 (fun r9 g9 h9 => by obtain ⟨V9, rfl, r, rfl, h⟩ := h9; exact kk r V9 h) jNo.x
theorem uX1_466 {G : jG} {l : Launch} {M : jM} {d c n pc : Nat} {lv : List (Nat × Value)} {rest : List Value} {post : Option Value → List jC → Prop} {xp : String → List jC → Prop} (hM : M.1.cls = RX1) (htr : l.stackTraces = false) {sh : List jH} {V : Nat → Nat → Int32} {R : Nat → Nat → Option Nat} {w : Nat} (hT : jReg shX2 sh w) {a1 : Int32} {a2 : Int32} {a3 : Int32} {Q : (Nat → Nat → Int32) → Prop} (hd : decode M.2.1 pc = .ok (.invokevirtual 466, 3)) (hdd : 3 + 1 ≤ d) (hw8 : (rest.map fun v => v.category).sum ≤ 8) (hw : wX2_settles w V a1 a2 a3 Q) (kk : ∀ V', Q V' → J G l M d c n (pc + 3) lv rest (mk sh V' R) post xp) : J G l M d c n pc lv (.int a3 :: .int a2 :: .int a1 :: .ref w :: rest) (mk sh V R) post xp := by
  exact J.callV (As := [.int a1, .int a2, .int a3]) (hcw := by rw [hM]; exact lw_V q1864 q1865 q1866 q145 q1867) (mX2_settles htr hT hw) hd rfl ⟨1, _, _, mk_at (hT.at 0 rfl), rfl, rfl, fun _ => rfl⟩ ⟨rfl, by decide, by decide, by show _ = some 3; decide +kernel⟩ hw8 ⟨hdd, by decide⟩ jcc0 (fun r9 g9 h9 => by obtain ⟨V9, rfl, rfl, h⟩ := h9; exact kk V9 h) jNo.x
theorem uX1_470 {G : jG} {l : Launch} {M : jM} {d c n pc : Nat} {lv : List (Nat × Value)} {rest : List Value} {post : Option Value → List jC → Prop} {xp : String → List jC → Prop} (hM : M.1.cls = RX1) (htr : l.stackTraces = false) {sh : List jH} {V : Nat → Nat → Int32} {R : Nat → Nat → Option Nat} {w : Nat} (hT : jReg shX2 sh w) {Q : (Nat → Nat → Int32) → Prop} (hd : decode M.2.1 pc = .ok (.invokevirtual 470, 3)) (hdd : 2 + 1 ≤ d) (hw8 : (rest.map fun v => v.category).sum ≤ 8) (hw : wX2_ends w V Q) (kk : ∀ V', Q V' → J G l M d c n (pc + 3) lv rest (mk sh V' R) post xp) : J G l M d c n pc lv (.ref w :: rest) (mk sh V R) post xp := by
  exact J.callV (As := []) (hcw := by rw [hM]; exact lw_V q1870 q1871 q1872 q145 q1873) (mX2_ends htr hT hw) hd rfl ⟨1, _, _, mk_at (hT.at 0 rfl), rfl, rfl, fun _ => rfl⟩ ⟨rfl, by decide, by decide, by show _ = some 0; decide +kernel⟩ hw8 ⟨hdd, by decide⟩ jcc0 (fun r9 g9 h9 => by obtain ⟨V9, rfl, rfl, h⟩ := h9; exact kk V9 h) jNo.x
-- VisitingHours.aWeek(LVisitingHours$World;ZZ)I
def wX1_aWeek_73 (x : Nat) (w1 : Nat) (sh : List jH) (R : Nat → Nat → Option Nat) (a2 : Int32) (a3 : Int32) (Q : Int32 → (Nat → Nat → Int32) → Prop) : Nat → (Nat → Nat → Int32) → Int32 → Int32 → Prop
  | 0, _, _, _ => False
  | f + 1, V, x4, x5 =>
    (((V w1 1) ≤ x5 → (wX2_ends w1 V (fun V105 => Q x4 V105))) ∧ (¬ (V w1 1) ≤ x5 → (wX1_has (V x 6) x5 (fun r91 => (wX2_settles w1 V x5 r91 a3 (fun V95 => (∀ y98 : Int32, y98 = x5 + (1 : Int32) → wX1_aWeek_73 x w1 sh R a2 a3 Q f V95 x4 y98)))))))
theorem rX1_aWeek_73 {G : jG} {l : Launch} {d : Nat} {c n : Nat} (htr : l.stackTraces = false) (hdd : 44 ≤ d) {sh : List jH} {R : Nat → Nat → Option Nat} {x : Nat} {w1 : Nat} (hT : jReg shX1 sh x) (hW1 : jReg shX2 sh w1) {a2 : Int32} {a3 : Int32} {Q : Int32 → (Nat → Nat → Int32) → Prop} : ∀ (f : Nat) (V : Nat → Nat → Int32) (x4 : Int32) (x5 : Int32), wX1_aWeek_73 x w1 sh R a2 a3 Q f V x4 x5 → J G l MX1_aWeek d c n 73 [(0, .ref x), (1, .ref w1), (3, .int a3), (4, .int x4), (5, .int x5)] [] (mk sh V R) (jWr sh R Q) jNo := by
  intro f
  induction f with
  | zero =>
    intro V x4 x5 hw
    rw [wX1_aWeek_73] at hw
    exact hw.elim
  | succ f ih =>
    intro V x4 x5 hw
    rw [wX1_aWeek_73] at hw
    refine J.iload 4 dX1_aWeek_73 rfl ?_
    refine J.aload_n 1 dX1_aWeek_75 rfl ?_
    refine fgX1_132 rfl hW1 dX1_aWeek_76 ?_
    refine J.icmp_ge 104 dX1_aWeek_79 (by decide) ⟨fun c79 => ?_, fun c79 => ?_⟩
    · obtain ⟨hw, -⟩ := hw
      specialize hw c79
      refine J.aload_n 1 dX1_aWeek_104 rfl ?_
      refine uX1_470 rfl htr hW1 dX1_aWeek_105 (by omega) (Nat.le_of_ble_eq_true rfl) hw ?_
      clear hw
      intro V105 hw
      refine J.iload 3 dX1_aWeek_108 rfl ?_
      exact J.iret rfl dX1_aWeek_110 ⟨_, rfl, _, rfl, hw⟩
    · obtain ⟨-, hw⟩ := hw
      specialize hw c79
      refine J.aload_n 1 dX1_aWeek_82 rfl ?_
      refine J.iload 4 dX1_aWeek_83 rfl ?_
      refine J.aload_n 0 dX1_aWeek_85 rfl ?_
      refine fgX1_456 rfl hT dX1_aWeek_86 ?_
      refine J.iload 4 dX1_aWeek_89 rfl ?_
      refine uX1_128 rfl htr dX1_aWeek_91 (by omega) (Nat.le_of_ble_eq_true rfl) hw ?_
      clear hw
      intro r91 hw
      refine J.iload_n 2 dX1_aWeek_94 rfl ?_
      refine uX1_466 rfl htr hW1 dX1_aWeek_95 (by omega) (Nat.le_of_ble_eq_true rfl) hw ?_
      clear hw
      intro V95 hw
      refine J.iincN 4 (K := (1 : Int32)) (lv' := fun y98 => [(5, .int y98), (0, .ref x), (1, .ref w1), (3, .int a3), (4, .int x4)]) dX1_aWeek_98 rfl (by decide) (by decide) (fun _ => rfl) hw ?_
      clear hw
      intro y98 hw
      refine J.goto 73 dX1_aWeek_101 (by decide) ?_
      exact J.pick [1, 2, 3, 4, 0] rfl (ih _ _ _ hw)
def wX1_aWeek_40 (x : Nat) (w1 : Nat) (sh : List jH) (R : Nat → Nat → Option Nat) (a2 : Int32) (a3 : Int32) (Q : Int32 → (Nat → Nat → Int32) → Prop) (K11 : (Nat → Nat → Int32) → Int32 → Int32 → Prop) (V : Nat → Nat → Int32) (x4 : Int32) (x5 : Int32) (s0 : Int32) : Prop :=
  ((s0 = 0 → (wX1_meets x w1 sh R V x5 a3 (fun r58 V58 => (∀ y62 : Int32, y62 = (x4 + r58) → (∀ y64 : Int32, y64 = x5 + (1 : Int32) → K11 V58 y62 y64))))) ∧ (¬ s0 = 0 → (∀ y62 : Int32, y62 = (x4 + (0 : Int32)) → (∀ y64 : Int32, y64 = x5 + (1 : Int32) → K11 V y62 y64))))
theorem rX1_aWeek_40 {G : jG} {l : Launch} {d : Nat} {c n : Nat} (htr : l.stackTraces = false) (hdd : 44 ≤ d) {sh : List jH} {R : Nat → Nat → Option Nat} {x : Nat} {w1 : Nat} (hT : jReg shX1 sh x) (hW1 : jReg shX2 sh w1) {a2 : Int32} {a3 : Int32} {Q : Int32 → (Nat → Nat → Int32) → Prop} {K11 : (Nat → Nat → Int32) → Int32 → Int32 → Prop} (hK11 : ∀ (V : Nat → Nat → Int32) (x4 : Int32) (x5 : Int32), K11 V x4 x5 → J G l MX1_aWeek d c n 11 [(0, .ref x), (1, .ref w1), (2, .int a2), (3, .int a3), (4, .int x4), (5, .int x5)] [] (mk sh V R) (jWr sh R Q) jNo) {V : Nat → Nat → Int32} {x4 : Int32} {x5 : Int32} {s0 : Int32} (hw : wX1_aWeek_40 x w1 sh R a2 a3 Q K11 V x4 x5 s0) : J G l MX1_aWeek d c n 40 [(0, .ref x), (1, .ref w1), (2, .int a2), (3, .int a3), (4, .int x4), (5, .int x5)] [.int s0] (mk sh V R) (jWr sh R Q) jNo := by
  unfold wX1_aWeek_40 at hw
  refine J.istore (lv' := [(6, .int s0), (0, .ref x), (1, .ref w1), (2, .int a2), (3, .int a3), (4, .int x4), (5, .int x5)]) dX1_aWeek_40 (by decide) rfl ?_
  refine J.iload 5 dX1_aWeek_42 rfl ?_
  refine J.iload 0 dX1_aWeek_44 rfl ?_
  refine J.if_eq 53 dX1_aWeek_46 (by decide) ⟨fun c46 => ?_, fun c46 => ?_⟩
  · obtain ⟨hw, -⟩ := hw
    specialize hw c46
    refine J.aload_n 1 dX1_aWeek_53 rfl ?_
    refine J.aload_n 2 dX1_aWeek_54 rfl ?_
    refine J.iload 6 dX1_aWeek_55 rfl ?_
    refine J.iload_n 4 dX1_aWeek_57 rfl ?_
    refine uX1_462 rfl htr hT hW1 dX1_aWeek_58 (by omega) (Nat.le_of_ble_eq_true rfl) hw ?_
    clear hw
    intro r58 V58 hw
    refine J.iadd dX1_aWeek_61 ?_
    refine J.nm hw ?_
    clear hw
    intro y62 hw
    refine J.istore (lv' := [(4, .int y62), (6, .int s0), (0, .ref x), (1, .ref w1), (2, .int a2), (3, .int a3), (5, .int x5)]) dX1_aWeek_62 (by decide) rfl ?_
    refine J.iincN 6 (K := (1 : Int32)) (lv' := fun y64 => [(5, .int y64), (4, .int y62), (6, .int s0), (0, .ref x), (1, .ref w1), (2, .int a2), (3, .int a3)]) dX1_aWeek_64 rfl (by decide) (by decide) (fun _ => rfl) hw ?_
    clear hw
    intro y64 hw
    refine J.goto 11 dX1_aWeek_67 (by decide) ?_
    exact J.pick [3, 4, 5, 6, 1, 0] rfl (hK11 _ _ _ hw)
  · obtain ⟨-, hw⟩ := hw
    specialize hw c46
    refine J.iconst (v := (0 : Int32)) dX1_aWeek_49 (by decide) ?_
    refine J.goto 61 dX1_aWeek_50 (by decide) ?_
    refine J.iadd dX1_aWeek_61 ?_
    refine J.nm hw ?_
    clear hw
    intro y62 hw
    refine J.istore (lv' := [(4, .int y62), (6, .int s0), (0, .ref x), (1, .ref w1), (2, .int a2), (3, .int a3), (5, .int x5)]) dX1_aWeek_62 (by decide) rfl ?_
    refine J.iincN 6 (K := (1 : Int32)) (lv' := fun y64 => [(5, .int y64), (4, .int y62), (6, .int s0), (0, .ref x), (1, .ref w1), (2, .int a2), (3, .int a3)]) dX1_aWeek_64 rfl (by decide) (by decide) (fun _ => rfl) hw ?_
    clear hw
    intro y64 hw
    refine J.goto 11 dX1_aWeek_67 (by decide) ?_
    exact J.pick [3, 4, 5, 6, 1, 0] rfl (hK11 _ _ _ hw)
def wX1_aWeek_39 (x : Nat) (w1 : Nat) (sh : List jH) (R : Nat → Nat → Option Nat) (a2 : Int32) (a3 : Int32) (Q : Int32 → (Nat → Nat → Int32) → Prop) (K11 : (Nat → Nat → Int32) → Int32 → Int32 → Prop) (V : Nat → Nat → Int32) (x4 : Int32) (x5 : Int32) : Prop :=
  wX1_aWeek_40 x w1 sh R a2 a3 Q K11 V x4 x5 (0 : Int32)
theorem rX1_aWeek_39 {G : jG} {l : Launch} {d : Nat} {c n : Nat} (htr : l.stackTraces = false) (hdd : 44 ≤ d) {sh : List jH} {R : Nat → Nat → Option Nat} {x : Nat} {w1 : Nat} (hT : jReg shX1 sh x) (hW1 : jReg shX2 sh w1) {a2 : Int32} {a3 : Int32} {Q : Int32 → (Nat → Nat → Int32) → Prop} {K11 : (Nat → Nat → Int32) → Int32 → Int32 → Prop} (hK11 : ∀ (V : Nat → Nat → Int32) (x4 : Int32) (x5 : Int32), K11 V x4 x5 → J G l MX1_aWeek d c n 11 [(0, .ref x), (1, .ref w1), (2, .int a2), (3, .int a3), (4, .int x4), (5, .int x5)] [] (mk sh V R) (jWr sh R Q) jNo) {V : Nat → Nat → Int32} {x4 : Int32} {x5 : Int32} (hw : wX1_aWeek_39 x w1 sh R a2 a3 Q K11 V x4 x5) : J G l MX1_aWeek d c n 39 [(0, .ref x), (1, .ref w1), (2, .int a2), (3, .int a3), (4, .int x4), (5, .int x5)] [] (mk sh V R) (jWr sh R Q) jNo := by
  unfold wX1_aWeek_39 at hw
  refine J.iconst (v := (0 : Int32)) dX1_aWeek_39 (by decide) ?_
  exact (rX1_aWeek_40 htr hdd hT hW1 hK11 hw)
def wX1_aWeek_11 (x : Nat) (w1 : Nat) (sh : List jH) (R : Nat → Nat → Option Nat) (a2 : Int32) (a3 : Int32) (Q : Int32 → (Nat → Nat → Int32) → Prop) : Nat → (Nat → Nat → Int32) → Int32 → Int32 → Prop
  | 0, _, _, _ => False
  | f + 1, V, x4, x5 =>
    (((8 : Int32) ≤ x5 → (∃ f9, wX1_aWeek_73 x w1 sh R a2 a3 Q f9 V x4 (0 : Int32))) ∧ (¬ (8 : Int32) ≤ x5 → ((a2 = 0 → wX1_aWeek_39 x w1 sh R a2 a3 Q (fun V x4 x5 => wX1_aWeek_11 x w1 sh R a2 a3 Q f V x4 x5) V x4 x5) ∧ (¬ a2 = 0 → (wX2_draw w1 V (100 : Int32) (fun r25 V25 => (((V25 w1 3) ≤ r25 → wX1_aWeek_39 x w1 sh R a2 a3 Q (fun V x4 x5 => wX1_aWeek_11 x w1 sh R a2 a3 Q f V x4 x5) V25 x4 x5) ∧ (¬ (V25 w1 3) ≤ r25 → wX1_aWeek_40 x w1 sh R a2 a3 Q (fun V x4 x5 => wX1_aWeek_11 x w1 sh R a2 a3 Q f V x4 x5) V25 x4 x5 (1 : Int32)))))))))
theorem rX1_aWeek_11 {G : jG} {l : Launch} {d : Nat} {c n : Nat} (htr : l.stackTraces = false) (hdd : 44 ≤ d) {sh : List jH} {R : Nat → Nat → Option Nat} {x : Nat} {w1 : Nat} (hT : jReg shX1 sh x) (hW1 : jReg shX2 sh w1) {a2 : Int32} {a3 : Int32} {Q : Int32 → (Nat → Nat → Int32) → Prop} : ∀ (f : Nat) (V : Nat → Nat → Int32) (x4 : Int32) (x5 : Int32), wX1_aWeek_11 x w1 sh R a2 a3 Q f V x4 x5 → J G l MX1_aWeek d c n 11 [(0, .ref x), (1, .ref w1), (2, .int a2), (3, .int a3), (4, .int x4), (5, .int x5)] [] (mk sh V R) (jWr sh R Q) jNo := by
  intro f
  induction f with
  | zero =>
    intro V x4 x5 hw
    rw [wX1_aWeek_11] at hw
    exact hw.elim
  | succ f ih =>
    intro V x4 x5 hw
    rw [wX1_aWeek_11] at hw
    refine J.iload 5 dX1_aWeek_11 rfl ?_
    refine J.bipush (v := (8 : Int32)) dX1_aWeek_13 (by decide) ?_
    refine J.icmp_ge 70 dX1_aWeek_15 (by decide) ⟨fun c15 => ?_, fun c15 => ?_⟩
    · obtain ⟨hw, -⟩ := hw
      specialize hw c15
      refine J.iconst (v := (0 : Int32)) dX1_aWeek_70 (by decide) ?_
      refine J.istore (lv' := [(5, .int (0 : Int32)), (0, .ref x), (1, .ref w1), (2, .int a2), (3, .int a3), (4, .int x4)]) dX1_aWeek_71 (by decide) rfl ?_
      obtain ⟨f9, hw⟩ := hw
      exact J.pick [1, 2, 4, 5, 0] rfl (rX1_aWeek_73 htr hdd hT hW1 f9 _ _ _ hw)
    · obtain ⟨-, hw⟩ := hw
      specialize hw c15
      refine J.iload_n 2 dX1_aWeek_18 rfl ?_
      refine J.if_eq 39 dX1_aWeek_19 (by decide) ⟨fun c19 => ?_, fun c19 => ?_⟩
      · obtain ⟨hw, -⟩ := hw
        specialize hw c19
        exact (rX1_aWeek_39 htr hdd hT hW1 ih hw)
      · obtain ⟨-, hw⟩ := hw
        specialize hw c19
        refine J.aload_n 1 dX1_aWeek_22 rfl ?_
        refine J.bipush (v := (100 : Int32)) dX1_aWeek_23 (by decide) ?_
        refine uX1_459 rfl htr hW1 dX1_aWeek_25 (by omega) (Nat.le_of_ble_eq_true rfl) hw ?_
        clear hw
        intro r25 V25 hw
        refine J.aload_n 1 dX1_aWeek_28 rfl ?_
        refine fgX1_225 rfl hW1 dX1_aWeek_29 ?_
        refine J.icmp_ge 39 dX1_aWeek_32 (by decide) ⟨fun c32 => ?_, fun c32 => ?_⟩
        · obtain ⟨hw, -⟩ := hw
          specialize hw c32
          exact (rX1_aWeek_39 htr hdd hT hW1 ih hw)
        · obtain ⟨-, hw⟩ := hw
          specialize hw c32
          refine J.iconst (v := (1 : Int32)) dX1_aWeek_35 (by decide) ?_
          refine J.goto 40 dX1_aWeek_36 (by decide) ?_
          exact (rX1_aWeek_40 htr hdd hT hW1 ih hw)
def wX1_aWeek (x : Nat) (w1 : Nat) (sh : List jH) (R : Nat → Nat → Option Nat) (V : Nat → Nat → Int32) (a2 : Int32) (a3 : Int32) (Q : Int32 → (Nat → Nat → Int32) → Prop) : Prop :=
  (∃ f9, wX1_aWeek_11 x w1 sh R a2 a3 Q f9 (vset V x 6 (0 : Int32)) (0 : Int32) (0 : Int32))
theorem mX1_aWeek {G : jG} {l : Launch} {d : Nat} (htr : l.stackTraces = false) (hdd : 44 ≤ d) {sh : List jH} {R : Nat → Nat → Option Nat} {V : Nat → Nat → Int32} {x : Nat} {w1 : Nat} (hT : jReg shX1 sh x) (hW1 : jReg shX2 sh w1) {a2 : Int32} {a3 : Int32} {Q : Int32 → (Nat → Nat → Int32) → Prop} (hw : wX1_aWeek x w1 sh R V a2 a3 Q) : JM G l MX1_aWeek d 0 0 [.ref x, .ref w1, .int a2, .int a3] (mk sh V R) (jWr sh R Q) jNo := by
  refine JM.intro (by decide) rfl htr (Nat.le_of_ble_eq_true rfl) ?_
  show J G l MX1_aWeek d 0 0 0 [(0, .ref x), (1, .ref w1), (2, .int a2), (3, .int a3)] [] (mk sh V R) _ _
  unfold wX1_aWeek at hw
  refine J.iconst (v := (0 : Int32)) dX1_aWeek_0 (by decide) ?_
  refine J.istore (lv' := [(4, .int (0 : Int32)), (0, .ref x), (1, .ref w1), (2, .int a2), (3, .int a3)]) dX1_aWeek_1 (by decide) rfl ?_
  refine J.aload_n 1 dX1_aWeek_3 rfl ?_
  refine J.iconst (v := (0 : Int32)) dX1_aWeek_4 (by decide) ?_
  refine fpX1_456 rfl hT dX1_aWeek_5 ?_
  refine J.iconst (v := (0 : Int32)) dX1_aWeek_8 (by decide) ?_
  refine J.istore (lv' := [(5, .int (0 : Int32)), (4, .int (0 : Int32)), (0, .ref x), (1, .ref w1), (2, .int a2), (3, .int a3)]) dX1_aWeek_9 (by decide) rfl ?_
  obtain ⟨f9, hw⟩ := hw
  exact J.pick [2, 3, 4, 5, 1, 0] rfl (rX1_aWeek_11 htr hdd hT hW1 f9 _ _ _ hw)
abbrev MX1_weeks : jM := (yX1_weeks, cX1_weeks, 4, some .int, [])
theorem uX1_473 {G : jG} {l : Launch} {M : jM} {d c n pc : Nat} {lv : List (Nat × Value)} {rest : List Value} {post : Option Value → List jC → Prop} {xp : String → List jC → Prop} (hM : M.1.cls = RX1) (htr : l.stackTraces = false) {sh : List jH} {V : Nat → Nat → Int32} {R : Nat → Nat → Option Nat} {x : Nat} {w1 : Nat} (hT : jReg shX1 sh x) (hW1 : jReg shX2 sh w1) {a2 : Int32} {a3 : Int32} {Q : Int32 → (Nat → Nat → Int32) → Prop} (hd : decode M.2.1 pc = .ok (.invokevirtual 473, 3)) (hdd : 44 + 1 ≤ d) (hw8 : (rest.map fun v => v.category).sum ≤ 8) (hw : wX1_aWeek x w1 sh R V a2 a3 Q) (kk : ∀ r V', Q r V' → J G l M d c n (pc + 3) lv (.int r :: rest) (mk sh V' R) post xp) : J G l M d c n pc lv (.int a3 :: .int a2 :: .ref w1 :: .ref x :: rest) (mk sh V R) post xp := by
  exact J.callV (As := [.ref w1, .int a2, .int a3]) (hcw := by rw [hM]; exact lw_V q1845 q1847 qs48 q144 q1848) (mX1_aWeek htr (Nat.le_refl _) hT hW1 hw) hd rfl ⟨0, _, _, mk_at (hT.at 0 rfl), rfl, rfl, fun _ => rfl⟩ ⟨rfl, by decide, by decide, by show _ = some 3; decide +kernel⟩ hw8 ⟨hdd, by decide⟩ jcc0 (fun r9 g9 h9 => by obtain ⟨V9, rfl, r, rfl, h⟩ := h9; exact kk r V9 h) jNo.x
-- VisitingHours.weeks(I)I
def wX1_weeks_18 (x : Nat) (a1 : Int32) (Q : Int32 → List jH → (Nat → Nat → Int32) → (Nat → Nat → Option Nat) → Prop) (X : String → List jH → (Nat → Nat → Int32) → (Nat → Nat → Option Nat) → Prop) : Nat → List jH → (Nat → Nat → Int32) → (Nat → Nat → Option Nat) → Nat → Nat → Int32 → Int32 → Prop
  | 0, _, _, _, _, _, _, _ => False
  | f + 1, sh, V, R, c, n, x2, x3 =>
    ((a1 ≤ x3 → Q x2 sh V R) ∧ (¬ a1 ≤ x3 → (wX1_aWeek x (x + 1) sh R V (1 : Int32) (1 : Int32) (fun r31 V31 => (∀ y35 : Int32, y35 = (x2 + r31) → (∀ y36 : Int32, y36 = x3 + (1 : Int32) → wX1_weeks_18 x a1 Q X f sh V31 R c n y35 y36))))))
theorem rX1_weeks_18 {G : jG} {l : Launch} {d : Nat} (htr : l.stackTraces = false) (hdd : 45 ≤ d) {x : Nat} {a1 : Int32} {Q : Int32 → List jH → (Nat → Nat → Int32) → (Nat → Nat → Option Nat) → Prop} {X : String → List jH → (Nat → Nat → Int32) → (Nat → Nat → Option Nat) → Prop} : ∀ (f : Nat) (sh : List jH) (V : Nat → Nat → Int32) (R : Nat → Nat → Option Nat) (c : Nat) (n : Nat) (x2 : Int32) (x3 : Int32) (hT : jReg shX1 sh x), wX1_weeks_18 x a1 Q X f sh V R c n x2 x3 → J G l MX1_weeks d c n 18 [(0, .ref x), (1, .int a1), (2, .int x2), (3, .int x3)] [] (mk sh V R) (jSr Q) (jSx X) := by
  intro f
  induction f with
  | zero =>
    intro sh V R c n x2 x3 hT hw
    rw [wX1_weeks_18] at hw
    exact hw.elim
  | succ f ih =>
    intro sh V R c n x2 x3 hT hw
    rw [wX1_weeks_18] at hw
    refine J.iload_n 3 dX1_weeks_18 rfl ?_
    refine J.iload_n 1 dX1_weeks_19 rfl ?_
    refine J.icmp_ge 42 dX1_weeks_20 (by decide) ⟨fun c20 => ?_, fun c20 => ?_⟩
    · obtain ⟨hw, -⟩ := hw
      specialize hw c20
      refine J.iload_n 2 dX1_weeks_42 rfl ?_
      exact J.iret rfl dX1_weeks_43 ⟨_, _, _, rfl, _, rfl, hw⟩
    · obtain ⟨-, hw⟩ := hw
      specialize hw c20
      refine J.iload_n 2 dX1_weeks_23 rfl ?_
      refine J.aload_n 0 dX1_weeks_24 rfl ?_
      refine J.aload_n 0 dX1_weeks_25 rfl ?_
      refine fgX1_10 rfl hT dX1_weeks_26 ?_
      refine J.iconst (v := (1 : Int32)) dX1_weeks_29 (by decide) ?_
      refine J.iconst (v := (1 : Int32)) dX1_weeks_30 (by decide) ?_
      refine uX1_473 rfl htr hT (hT.sub 1 36 rfl) dX1_weeks_31 (by omega) (Nat.le_of_ble_eq_true rfl) hw ?_
      clear hw
      intro r31 V31 hw
      refine J.iadd dX1_weeks_34 ?_
      refine J.nm hw ?_
      clear hw
      intro y35 hw
      refine J.istore_n (lv' := [(2, .int y35), (0, .ref x), (1, .int a1), (3, .int x3)]) dX1_weeks_35 (by decide) rfl ?_
      refine J.iincN 3 (K := (1 : Int32)) (lv' := fun y36 => [(3, .int y36), (2, .int y35), (0, .ref x), (1, .int a1)]) dX1_weeks_36 rfl (by decide) (by decide) (fun _ => rfl) hw ?_
      clear hw
      intro y36 hw
      refine J.goto 18 dX1_weeks_39 (by decide) ?_
      exact J.pick [2, 3, 1, 0] rfl (ih _ _ _ _ _ _ _ hT hw)
def wX1_weeks (x : Nat) (sh : List jH) (V : Nat → Nat → Int32) (R : Nat → Nat → Option Nat) (c : Nat) (n : Nat) (a1 : Int32) (Q : Int32 → List jH → (Nat → Nat → Int32) → (Nat → Nat → Option Nat) → Prop) (X : String → List jH → (Nat → Nat → Int32) → (Nat → Nat → Option Nat) → Prop) : Prop :=
  (wX1_in a1 (1 : Int32) (60 : Int32) (fun r4 => ((wX1_demand r4 ((∃ c111 n111 c211 n211 : Nat, c111 + c211 ≤ c ∧ n111 + n211 ≤ n ∧ (wX1_remembers x sh V R c111 n111 (fun sh11 V11 R11 => (jReg shX1 sh11 x ∧ (∃ f9, wX1_weeks_18 x a1 Q X f9 sh11 V11 R11 c211 n211 (0 : Int32) (0 : Int32))))))) (fun _ => False)) ∨ (wX1_demand r4 False (fun E9 => X E9 sh V R) ∧ 1 ≤ c ∧ 6 ≤ n))))
theorem mX1_weeks {G : jG} {l : Launch} {d : Nat} (htr : l.stackTraces = false) (hdd : 45 ≤ d) {sh : List jH} {V : Nat → Nat → Int32} {R : Nat → Nat → Option Nat} {c : Nat} {n : Nat} {x : Nat} (hT : jReg shX1 sh x) {a1 : Int32} {Q : Int32 → List jH → (Nat → Nat → Int32) → (Nat → Nat → Option Nat) → Prop} {X : String → List jH → (Nat → Nat → Int32) → (Nat → Nat → Option Nat) → Prop} (hw : wX1_weeks x sh V R c n a1 Q X) : JM G l MX1_weeks d c n [.ref x, .int a1] (mk sh V R) (jSr Q) (jSx X) := by
  refine JM.intro (by decide) rfl htr (Nat.le_of_ble_eq_true rfl) ?_
  show J G l MX1_weeks d c n 0 [(0, .ref x), (1, .int a1)] [] (mk sh V R) _ _
  unfold wX1_weeks at hw
  refine J.iload_n 1 dX1_weeks_0 rfl ?_
  refine J.iconst (v := (1 : Int32)) dX1_weeks_1 (by decide) ?_
  refine J.bipush (v := (60 : Int32)) dX1_weeks_2 (by decide) ?_
  refine uX1_124 rfl htr dX1_weeks_4 (by omega) (Nat.le_of_ble_eq_true rfl) hw ?_
  clear hw
  intro r4 hw
  rcases hw with hw | hw
  rotate_left
  · refine uxX1_498 rfl htr dX1_weeks_7 (by omega) (Nat.le_of_ble_eq_true rfl) hw.1 (Or.inr hw.2) ?_
    exact fun E9 h9 => JX.out (by rfl) ⟨_, _, _, rfl, h9⟩
  refine uX1_498 rfl htr dX1_weeks_7 (by omega) (Nat.le_of_ble_eq_true rfl) hw ?_
  clear hw
  intro hw
  refine J.aload_n 0 dX1_weeks_10 rfl ?_
  obtain ⟨c111, n111, c211, n211, hc11, hd11, hw⟩ := hw
  refine uX1_533 rfl htr hT dX1_weeks_11 (by omega) (Nat.le_of_ble_eq_true rfl) hw ⟨hc11, hd11⟩ ?_
  clear hw
  intro sh11 V11 R11 hw
  clear hT
  obtain ⟨hT, hw⟩ := hw
  refine J.iconst (v := (0 : Int32)) dX1_weeks_14 (by decide) ?_
  refine J.istore_n (lv' := [(2, .int (0 : Int32)), (0, .ref x), (1, .int a1)]) dX1_weeks_15 (by decide) rfl ?_
  refine J.iconst (v := (0 : Int32)) dX1_weeks_16 (by decide) ?_
  refine J.istore_n (lv' := [(3, .int (0 : Int32)), (2, .int (0 : Int32)), (0, .ref x), (1, .int a1)]) dX1_weeks_17 (by decide) rfl ?_
  obtain ⟨f9, hw⟩ := hw
  exact J.pick [2, 3, 1, 0] rfl (rX1_weeks_18 htr hdd f9 _ _ _ _ _ _ _ hT hw)
abbrev MX1_savedFrom : jM := (yX1_savedFrom, cX1_savedFrom, 9, some .int, [])
theorem uX1_507 {G : jG} {l : Launch} {M : jM} {d c n pc : Nat} {lv : List (Nat × Value)} {rest : List Value} {post : Option Value → List jC → Prop} {xp : String → List jC → Prop} (hM : M.1.cls = RX1) (htr : l.stackTraces = false) {sh : List jH} {V : Nat → Nat → Int32} {R : Nat → Nat → Option Nat} {w : Nat} (hT : jReg shX2 sh w) {a1 : Int32} {Q : Int32 → Prop} (hd : decode M.2.1 pc = .ok (.invokevirtual 507, 3)) (hdd : 0 + 1 ≤ d) (hw8 : (rest.map fun v => v.category).sum ≤ 8) (hw : wX2_free w V a1 Q) (kk : ∀ r, Q r → J G l M d c n (pc + 3) lv (.int r :: rest) (mk sh V R) post xp) : J G l M d c n pc lv (.int a1 :: .ref w :: rest) (mk sh V R) post xp := by
  exact J.callV (As := [.int a1]) (hcw := by rw [hM]; exact lw_V q1701 q1702 q1703 q145 q1704) (mX2_free htr hT hw) hd rfl ⟨1, _, _, mk_at (hT.at 0 rfl), rfl, rfl, fun _ => rfl⟩ ⟨rfl, by decide, by decide, by show _ = some 1; decide +kernel⟩ hw8 ⟨hdd, by decide⟩ jcc0 (fun r9 g9 h9 => by obtain ⟨rfl, r, rfl, h⟩ := h9; exact kk r h) jNo.x
theorem uX1_623_X1_savedFrom {G : jG} {l : Launch} {M : jM} {d c n pc : Nat} {lv : List (Nat × Value)} {rest : List Value} {post : Option Value → List jC → Prop} {xp : String → List jC → Prop} (hM : M.1.cls = RX1) (htr : l.stackTraces = false) {sh : List jH} {V : Nat → Nat → Int32} {R : Nat → Nat → Option Nat} {x : Nat} (hT : jReg shX1 sh x) {REC : (Nat → Nat → Int32) → Int32 → Int32 → Int32 → Int32 → (Int32 → (Nat → Nat → Int32) → Prop) → Prop} {dr : Nat} (hdr : dr + 1 ≤ d) (hREC : ∀ {V : Nat → Nat → Int32} {a1 : Int32} {a2 : Int32} {a3 : Int32} {a4 : Int32} {Q : Int32 → (Nat → Nat → Int32) → Prop}, REC V a1 a2 a3 a4 Q → JM G l MX1_savedFrom dr 0 0 [.ref x, .int a1, .int a2, .int a3, .int a4] (mk sh V R) (jWr sh R Q) jNo) {a1 : Int32} {a2 : Int32} {a3 : Int32} {a4 : Int32} {Q : Int32 → (Nat → Nat → Int32) → Prop} (hd : decode M.2.1 pc = .ok (.invokevirtual 623, 3))  (hw8 : (rest.map fun v => v.category).sum ≤ 8) (hw : REC V a1 a2 a3 a4 Q) (kk : ∀ r V', Q r V' → J G l M d c n (pc + 3) lv (.int r :: rest) (mk sh V' R) post xp) : J G l M d c n pc lv (.int a4 :: .int a3 :: .int a2 :: .int a1 :: .ref x :: rest) (mk sh V R) post xp := by
  exact J.callV (As := [.int a1, .int a2, .int a3, .int a4]) (hcw := by rw [hM]; exact lw_V q1991 q1993 qs61 q144 q1994) (hREC hw) hd rfl ⟨0, _, _, mk_at (hT.at 0 rfl), rfl, rfl, fun _ => rfl⟩ ⟨rfl, by decide, by decide, by show _ = some 4; decide +kernel⟩ hw8 ⟨hdr, by decide⟩ jcc0 (fun r9 g9 h9 => by obtain ⟨V9, rfl, r, rfl, h⟩ := h9; exact kk r V9 h) jNo.x
-- VisitingHours.savedFrom(IIII)I
def wX1_savedFrom_96 (x : Nat) (sh : List jH) (R : Nat → Nat → Option Nat) (REC : (Nat → Nat → Int32) → Int32 → Int32 → Int32 → Int32 → (Int32 → (Nat → Nat → Int32) → Prop) → Prop) (a1 : Int32) (a2 : Int32) (a3 : Int32) (a4 : Int32) (Q : Int32 → (Nat → Nat → Int32) → Prop) : Nat → (Nat → Nat → Int32) → Int32 → Int32 → Int32 → Prop
  | 0, _, _, _, _ => False
  | f + 1, V, x5, x7, x8 =>
    (((8 : Int32) ≤ x8 → Q x5 V) ∧ (¬ (8 : Int32) ≤ x8 → (wX1_has x7 x8 (fun r107 => ((r107 = 0 → (∀ y138 : Int32, y138 = x8 + (1 : Int32) → wX1_savedFrom_96 x sh R REC a1 a2 a3 a4 Q f V x5 x7 y138)) ∧ (¬ r107 = 0 → (REC V a1 (a2 + (1 : Int32)) a3 (a4 ||| ((1 : Int32) <<< (x8 &&& 31))) (fun r129 V129 => (∀ y136 : Int32, y136 = (if x5 < ((1 : Int32) + r129) then ((1 : Int32) + r129) else x5) → (∀ y138 : Int32, y138 = x8 + (1 : Int32) → wX1_savedFrom_96 x sh R REC a1 a2 a3 a4 Q f V129 y136 x7 y138))))))))))
theorem rX1_savedFrom_96 {G : jG} {l : Launch} {d : Nat} {c n : Nat} (htr : l.stackTraces = false) (hdd : 44 ≤ d) {sh : List jH} {R : Nat → Nat → Option Nat} {x : Nat} (hT : jReg shX1 sh x) {REC : (Nat → Nat → Int32) → Int32 → Int32 → Int32 → Int32 → (Int32 → (Nat → Nat → Int32) → Prop) → Prop} {dr : Nat} (hdr : dr + 1 ≤ d) (hREC : ∀ {V : Nat → Nat → Int32} {a1 : Int32} {a2 : Int32} {a3 : Int32} {a4 : Int32} {Q : Int32 → (Nat → Nat → Int32) → Prop}, REC V a1 a2 a3 a4 Q → JM G l MX1_savedFrom dr 0 0 [.ref x, .int a1, .int a2, .int a3, .int a4] (mk sh V R) (jWr sh R Q) jNo) {a1 : Int32} {a2 : Int32} {a3 : Int32} {a4 : Int32} {Q : Int32 → (Nat → Nat → Int32) → Prop} : ∀ (f : Nat) (V : Nat → Nat → Int32) (x5 : Int32) (x7 : Int32) (x8 : Int32), wX1_savedFrom_96 x sh R REC a1 a2 a3 a4 Q f V x5 x7 x8 → J G l MX1_savedFrom d c n 96 [(0, .ref x), (1, .int a1), (2, .int a2), (3, .int a3), (4, .int a4), (5, .int x5), (7, .int x7), (8, .int x8)] [] (mk sh V R) (jWr sh R Q) jNo := by
  intro f
  induction f with
  | zero =>
    intro V x5 x7 x8 hw
    rw [wX1_savedFrom_96] at hw
    exact hw.elim
  | succ f ih =>
    intro V x5 x7 x8 hw
    rw [wX1_savedFrom_96] at hw
    refine J.iload 7 dX1_savedFrom_96 rfl ?_
    refine J.bipush (v := (8 : Int32)) dX1_savedFrom_98 (by decide) ?_
    refine J.icmp_ge 144 dX1_savedFrom_100 (by decide) ⟨fun c100 => ?_, fun c100 => ?_⟩
    · obtain ⟨hw, -⟩ := hw
      specialize hw c100
      refine J.iload 5 dX1_savedFrom_144 rfl ?_
      exact J.iret rfl dX1_savedFrom_146 ⟨_, rfl, _, rfl, hw⟩
    · obtain ⟨-, hw⟩ := hw
      specialize hw c100
      refine J.iload 6 dX1_savedFrom_103 rfl ?_
      refine J.iload 7 dX1_savedFrom_105 rfl ?_
      refine uX1_128 rfl htr dX1_savedFrom_107 (by omega) (Nat.le_of_ble_eq_true rfl) hw ?_
      clear hw
      intro r107 hw
      refine J.if_eq 138 dX1_savedFrom_110 (by decide) ⟨fun c110 => ?_, fun c110 => ?_⟩
      · obtain ⟨hw, -⟩ := hw
        specialize hw c110
        refine J.iincN 7 (K := (1 : Int32)) (lv' := fun y138 => [(8, .int y138), (0, .ref x), (1, .int a1), (2, .int a2), (3, .int a3), (4, .int a4), (5, .int x5), (7, .int x7)]) dX1_savedFrom_138 rfl (by decide) (by decide) (fun _ => rfl) hw ?_
        clear hw
        intro y138 hw
        refine J.goto 96 dX1_savedFrom_141 (by decide) ?_
        exact J.pick [1, 2, 3, 4, 5, 6, 7, 0] rfl (ih _ _ _ _ hw)
      · obtain ⟨-, hw⟩ := hw
        specialize hw c110
        refine J.iload 5 dX1_savedFrom_113 rfl ?_
        refine J.iconst (v := (1 : Int32)) dX1_savedFrom_115 (by decide) ?_
        refine J.aload_n 0 dX1_savedFrom_116 rfl ?_
        refine J.iload_n 1 dX1_savedFrom_117 rfl ?_
        refine J.iload_n 2 dX1_savedFrom_118 rfl ?_
        refine J.iconst (v := (1 : Int32)) dX1_savedFrom_119 (by decide) ?_
        refine J.iadd dX1_savedFrom_120 ?_
        refine J.iload_n 3 dX1_savedFrom_121 rfl ?_
        refine J.iload 4 dX1_savedFrom_122 rfl ?_
        refine J.iconst (v := (1 : Int32)) dX1_savedFrom_124 (by decide) ?_
        refine J.iload 7 dX1_savedFrom_125 rfl ?_
        refine J.ishl dX1_savedFrom_127 ?_
        refine J.ior dX1_savedFrom_128 ?_
        refine uX1_623_X1_savedFrom rfl htr hT (by omega) hREC dX1_savedFrom_129 (Nat.le_of_ble_eq_true rfl) hw ?_
        clear hw
        intro r129 V129 hw
        refine J.iadd dX1_savedFrom_132 ?_
        refine J.mmax dX1_savedFrom_133 q1942 q629 q159 q630 (Nat.le_of_ble_eq_true rfl) (by omega) ?_
        refine J.nm hw ?_
        clear hw
        intro y136 hw
        refine J.istore (lv' := [(5, .int y136), (0, .ref x), (1, .int a1), (2, .int a2), (3, .int a3), (4, .int a4), (7, .int x7), (8, .int x8)]) dX1_savedFrom_136 (by decide) rfl ?_
        refine J.iincN 7 (K := (1 : Int32)) (lv' := fun y138 => [(8, .int y138), (5, .int y136), (0, .ref x), (1, .int a1), (2, .int a2), (3, .int a3), (4, .int a4), (7, .int x7)]) dX1_savedFrom_138 rfl (by decide) (by decide) (fun _ => rfl) hw ?_
        clear hw
        intro y138 hw
        refine J.goto 96 dX1_savedFrom_141 (by decide) ?_
        exact J.pick [2, 3, 4, 5, 6, 1, 7, 0] rfl (ih _ _ _ _ hw)
def wX1_savedFrom_B (x : Nat) (sh : List jH) (R : Nat → Nat → Option Nat) (REC : (Nat → Nat → Int32) → Int32 → Int32 → Int32 → Int32 → (Int32 → (Nat → Nat → Int32) → Prop) → Prop) (V : Nat → Nat → Int32) (a1 : Int32) (a2 : Int32) (a3 : Int32) (a4 : Int32) (Q : Int32 → (Nat → Nat → Int32) → Prop) : Prop :=
  ((¬ a2 = (8 : Int32) → (REC V a1 (a2 + (1 : Int32)) a3 a4 (fun r16 V16 => (wX1_meetsIn x sh R V16 a1 (fun r24 V24 => (wX1_has (a3 &&& r24) a2 (fun r29 => ((¬ r29 = 0 → (vp_in a1 8 ∧ (vp_in a2 8 ∧ (∀ y49 : Int32, y49 = (V24 (((x + 1) + 26) + 1 + a1.toNatClampNeg) a2.toNatClampNeg) → (wX2_free (x + 1) V24 a1 (fun r56 => (vp_in y49 8 ∧ (wX2_busy (x + 1) V24 y49 (fun r76 => (∀ y91 : Int32, y91 = ((((r56 &&& (V24 ((x + 1) + 6) y49.toNatClampNeg)) &&& (r76 ^^^ (-1 : Int32))) &&& (a3 ^^^ (-1 : Int32))) &&& (a4 ^^^ (-1 : Int32))) → (∃ f9, wX1_savedFrom_96 x sh R REC a1 a2 a3 a4 Q f9 V24 r16 y91 (0 : Int32)))))))))))) ∧ (r29 = 0 → Q r16 V24))))))))) ∧ (a2 = (8 : Int32) → Q (0 : Int32) V))
def wX1_savedFrom (x : Nat) (sh : List jH) (R : Nat → Nat → Option Nat) : Nat → (Nat → Nat → Int32) → Int32 → Int32 → Int32 → Int32 → (Int32 → (Nat → Nat → Int32) → Prop) → Prop
  | 0, _, _, _, _, _, _ => False
  | f + 1, V, a1, a2, a3, a4, Q => wX1_savedFrom_B x sh R (wX1_savedFrom x sh R f) V a1 a2 a3 a4 Q
theorem mX1_savedFrom {G : jG} {l : Launch} (htr : l.stackTraces = false) {sh : List jH} {R : Nat → Nat → Option Nat} {x : Nat} (hT : jReg shX1 sh x) : ∀ (f : Nat) {V : Nat → Nat → Int32} {a1 : Int32} {a2 : Int32} {a3 : Int32} {a4 : Int32} {Q : Int32 → (Nat → Nat → Int32) → Prop}, wX1_savedFrom x sh R f V a1 a2 a3 a4 Q → JM G l MX1_savedFrom (44 + 1 * f) 0 0 [.ref x, .int a1, .int a2, .int a3, .int a4] (mk sh V R) (jWr sh R Q) jNo := by
  intro f
  induction f with
  | zero =>
    intro V a1 a2 a3 a4 Q hw
    rw [wX1_savedFrom] at hw
    exact hw.elim
  | succ f ih =>
    intro V a1 a2 a3 a4 Q hw
    rw [wX1_savedFrom] at hw
    have hdr : (44 + 1 * f) + 1 ≤ 44 + 1 * (f + 1) := by omega
    have hREC := @ih
    have hdd : 44 ≤ 44 + 1 * (f + 1) := by omega
    refine JM.intro (by decide) rfl htr (Nat.le_of_ble_eq_true rfl) ?_
    show J G l MX1_savedFrom (44 + 1 * (f + 1)) 0 0 0 [(0, .ref x), (1, .int a1), (2, .int a2), (3, .int a3), (4, .int a4)] [] (mk sh V R) _ _
    unfold wX1_savedFrom_B at hw
    refine J.iload_n 2 dX1_savedFrom_0 rfl ?_
    refine J.bipush (v := (8 : Int32)) dX1_savedFrom_1 (by decide) ?_
    refine J.icmp_ne 8 dX1_savedFrom_3 (by decide) ⟨fun c3 => ?_, fun c3 => ?_⟩
    · obtain ⟨hw, -⟩ := hw
      specialize hw c3
      refine J.aload_n 0 dX1_savedFrom_8 rfl ?_
      refine J.iload_n 1 dX1_savedFrom_9 rfl ?_
      refine J.iload_n 2 dX1_savedFrom_10 rfl ?_
      refine J.iconst (v := (1 : Int32)) dX1_savedFrom_11 (by decide) ?_
      refine J.iadd dX1_savedFrom_12 ?_
      refine J.iload_n 3 dX1_savedFrom_13 rfl ?_
      refine J.iload 4 dX1_savedFrom_14 rfl ?_
      refine uX1_623_X1_savedFrom rfl htr hT (by omega) hREC dX1_savedFrom_16 (Nat.le_of_ble_eq_true rfl) hw ?_
      clear hw
      intro r16 V16 hw
      refine J.istore (lv' := [(5, .int r16), (0, .ref x), (1, .int a1), (2, .int a2), (3, .int a3), (4, .int a4)]) dX1_savedFrom_19 (by decide) rfl ?_
      refine J.iload_n 4 dX1_savedFrom_21 rfl ?_
      refine J.aload_n 1 dX1_savedFrom_22 rfl ?_
      refine J.iload_n 2 dX1_savedFrom_23 rfl ?_
      refine uX1_617 rfl htr hT dX1_savedFrom_24 (by omega) (Nat.le_of_ble_eq_true rfl) hw ?_
      clear hw
      intro r24 V24 hw
      refine J.iand dX1_savedFrom_27 ?_
      refine J.iload_n 3 dX1_savedFrom_28 rfl ?_
      refine uX1_128 rfl htr dX1_savedFrom_29 (by omega) (Nat.le_of_ble_eq_true rfl) hw ?_
      clear hw
      intro r29 hw
      refine J.if_ne 38 dX1_savedFrom_32 (by decide) ⟨fun c32 => ?_, fun c32 => ?_⟩
      · obtain ⟨hw, -⟩ := hw
        specialize hw c32
        refine J.aload_n 1 dX1_savedFrom_38 rfl ?_
        refine fgX1_10 rfl hT dX1_savedFrom_39 ?_
        refine fgX1_415 rfl (hT.sub 1 36 rfl) dX1_savedFrom_42 ?_
        refine J.iload_n 2 dX1_savedFrom_45 rfl ?_
        obtain ⟨h46, hw⟩ := hw
        refine JV.grid dX1_savedFrom_46 ((hT.sub 1 36 rfl).ge 26) ((hT.sub 1 36 rfl).at 26 rfl) h46 ?_
        refine J.iload_n 3 dX1_savedFrom_47 rfl ?_
        obtain ⟨h48, hw⟩ := hw
        refine JV.iald dX1_savedFrom_48 (jrowg (hT.sub 1 36 rfl).1) (jrowB (hT.sub 1 36 rfl) h46) h48 ?_
        refine J.nm hw ?_
        clear hw
        intro y49 hw
        refine J.istore (lv' := [(6, .int y49), (5, .int r16), (0, .ref x), (1, .int a1), (2, .int a2), (3, .int a3), (4, .int a4)]) dX1_savedFrom_49 (by decide) rfl ?_
        refine J.aload_n 2 dX1_savedFrom_51 rfl ?_
        refine fgX1_10 rfl hT dX1_savedFrom_52 ?_
        refine J.iload_n 3 dX1_savedFrom_55 rfl ?_
        refine uX1_507 rfl htr (hT.sub 1 36 rfl) dX1_savedFrom_56 (by omega) (Nat.le_of_ble_eq_true rfl) hw ?_
        clear hw
        intro r56 hw
        refine J.aload_n 2 dX1_savedFrom_59 rfl ?_
        refine fgX1_10 rfl hT dX1_savedFrom_60 ?_
        refine fgX1_175 rfl (hT.sub 1 36 rfl) dX1_savedFrom_63 ?_
        refine J.iload 0 dX1_savedFrom_66 rfl ?_
        obtain ⟨h68, hw⟩ := hw
        refine JV.iald dX1_savedFrom_68 ((hT.sub 1 36 rfl).ge 6) ((hT.sub 1 36 rfl).at 6 rfl) h68 ?_
        refine J.iand dX1_savedFrom_69 ?_
        refine J.aload_n 2 dX1_savedFrom_70 rfl ?_
        refine fgX1_10 rfl hT dX1_savedFrom_71 ?_
        refine J.iload 0 dX1_savedFrom_74 rfl ?_
        refine uX1_516 rfl htr (hT.sub 1 36 rfl) dX1_savedFrom_76 (by omega) (Nat.le_of_ble_eq_true rfl) hw ?_
        clear hw
        intro r76 hw
        refine J.iconst (v := (-1 : Int32)) dX1_savedFrom_79 (by decide) ?_
        refine J.ixor dX1_savedFrom_80 ?_
        refine J.iand dX1_savedFrom_81 ?_
        refine J.iload_n 5 dX1_savedFrom_82 rfl ?_
        refine J.iconst (v := (-1 : Int32)) dX1_savedFrom_83 (by decide) ?_
        refine J.ixor dX1_savedFrom_84 ?_
        refine J.iand dX1_savedFrom_85 ?_
        refine J.iload 6 dX1_savedFrom_86 rfl ?_
        refine J.iconst (v := (-1 : Int32)) dX1_savedFrom_88 (by decide) ?_
        refine J.ixor dX1_savedFrom_89 ?_
        refine J.iand dX1_savedFrom_90 ?_
        refine J.nm hw ?_
        clear hw
        intro y91 hw
        refine J.istore (lv' := [(7, .int y91), (6, .int y49), (5, .int r16), (0, .ref x), (1, .int a1), (2, .int a2), (3, .int a3), (4, .int a4)]) dX1_savedFrom_91 (by decide) rfl ?_
        refine J.iconst (v := (0 : Int32)) dX1_savedFrom_93 (by decide) ?_
        refine J.istore (lv' := [(8, .int (0 : Int32)), (7, .int y91), (6, .int y49), (5, .int r16), (0, .ref x), (1, .int a1), (2, .int a2), (3, .int a3), (4, .int a4)]) dX1_savedFrom_94 (by decide) rfl ?_
        obtain ⟨f9, hw⟩ := hw
        exact J.pick [4, 5, 6, 7, 8, 3, 1, 0] rfl (rX1_savedFrom_96 htr hdd hT hdr hREC f9 _ _ _ _ hw)
      · obtain ⟨-, hw⟩ := hw
        specialize hw c32
        refine J.iload 0 dX1_savedFrom_35 rfl ?_
        exact J.iret rfl dX1_savedFrom_37 ⟨_, rfl, _, rfl, hw⟩
    · obtain ⟨-, hw⟩ := hw
      specialize hw c3
      refine J.iconst (v := (0 : Int32)) dX1_savedFrom_6 (by decide) ?_
      exact J.iret rfl dX1_savedFrom_7 ⟨_, rfl, _, rfl, hw⟩
abbrev MX1_saved : jM := (yX1_saved, cX1_saved, 3, some .int, [])
theorem uX1_623_X1_saved {G : jG} {l : Launch} {M : jM} {d c n pc : Nat} {lv : List (Nat × Value)} {rest : List Value} {post : Option Value → List jC → Prop} {xp : String → List jC → Prop} (hM : M.1.cls = RX1) (htr : l.stackTraces = false) {sh : List jH} {V : Nat → Nat → Int32} {R : Nat → Nat → Option Nat} {x : Nat} (hT : jReg shX1 sh x) (f9 : Nat) (hf9 : 44 + 1 * f9 + 1 ≤ d) {a1 : Int32} {a2 : Int32} {a3 : Int32} {a4 : Int32} {Q : Int32 → (Nat → Nat → Int32) → Prop} (hd : decode M.2.1 pc = .ok (.invokevirtual 623, 3))  (hw8 : (rest.map fun v => v.category).sum ≤ 8) (hw : wX1_savedFrom x sh R f9 V a1 a2 a3 a4 Q) (kk : ∀ r V', Q r V' → J G l M d c n (pc + 3) lv (.int r :: rest) (mk sh V' R) post xp) : J G l M d c n pc lv (.int a4 :: .int a3 :: .int a2 :: .int a1 :: .ref x :: rest) (mk sh V R) post xp := by
  exact J.callV (As := [.int a1, .int a2, .int a3, .int a4]) (hcw := by rw [hM]; exact lw_V q1991 q1993 qs61 q144 q1994) (mX1_savedFrom htr hT f9 hw) hd rfl ⟨0, _, _, mk_at (hT.at 0 rfl), rfl, rfl, fun _ => rfl⟩ ⟨rfl, by decide, by decide, by show _ = some 4; decide +kernel⟩ hw8 ⟨hf9, by decide⟩ jcc0 (fun r9 g9 h9 => by obtain ⟨V9, rfl, r, rfl, h⟩ := h9; exact kk r V9 h) jNo.x
-- VisitingHours.saved(II)I
def wX1_saved (x : Nat) (sh : List jH) (R : Nat → Nat → Option Nat) (V : Nat → Nat → Int32) (a1 : Int32) (a2 : Int32) (Q : Int32 → (Nat → Nat → Int32) → Prop) (X : String → (Nat → Nat → Int32) → Prop) : Prop :=
  ((wX1_hostAt x V a1 ((∃ f10, f10 ≤ 12 ∧ (wX1_savedFrom x sh R f10 V a1 (0 : Int32) a2 (0 : Int32) (fun r10 V10 => Q r10 V10)))) (fun _ => False)) ∨ (wX1_hostAt x V a1 False (fun E9 => X E9 V)))
theorem mX1_saved {G : jG} {l : Launch} {d : Nat} {c n : Nat} (htr : l.stackTraces = false) (hdd : 105 ≤ d) {sh : List jH} {R : Nat → Nat → Option Nat} {V : Nat → Nat → Int32} {x : Nat} (hT : jReg shX1 sh x) {a1 : Int32} {a2 : Int32} {Q : Int32 → (Nat → Nat → Int32) → Prop} {X : String → (Nat → Nat → Int32) → Prop} (hw : wX1_saved x sh R V a1 a2 Q X) (hb : (∀ E V', ¬ X E V') ∨ 1 ≤ c ∧ 6 ≤ n) : JM G l MX1_saved d c n [.ref x, .int a1, .int a2] (mk sh V R) (jWr sh R Q) (jXw sh R X) := by
  refine JM.intro (by decide) rfl htr (Nat.le_of_ble_eq_true rfl) ?_
  show J G l MX1_saved d c n 0 [(0, .ref x), (1, .int a1), (2, .int a2)] [] (mk sh V R) _ _
  unfold wX1_saved at hw
  refine J.aload_n 0 dX1_saved_0 rfl ?_
  refine J.iload_n 1 dX1_saved_1 rfl ?_
  rcases hw with hw | hw
  rotate_left
  · refine uxX1_489 rfl htr hT dX1_saved_2 (by omega) (Nat.le_of_ble_eq_true rfl) hw (hb.imp (fun h9 _ h8 => h9 _ _ h8) id) ?_
    exact fun E9 h9 => JX.out (by rfl) ⟨_, rfl, h9⟩
  refine uX1_489 rfl htr hT dX1_saved_2 (by omega) (Nat.le_of_ble_eq_true rfl) hw ?_
  clear hw
  intro hw
  refine J.aload_n 0 dX1_saved_5 rfl ?_
  refine J.iload_n 1 dX1_saved_6 rfl ?_
  refine J.iconst (v := (0 : Int32)) dX1_saved_7 (by decide) ?_
  refine J.iload_n 2 dX1_saved_8 rfl ?_
  refine J.iconst (v := (0 : Int32)) dX1_saved_9 (by decide) ?_
  obtain ⟨f10, hf10, hw⟩ := hw
  refine uX1_623_X1_saved rfl htr hT f10 (by omega) dX1_saved_10 (Nat.le_of_ble_eq_true rfl) hw ?_
  clear hw
  intro r10 V10 hw
  exact J.iret rfl dX1_saved_13 ⟨_, rfl, _, rfl, hw⟩
theorem fgX1_36 {G : jG} {l : Launch} {M : jM} {d c n pc : Nat} {lv : List (Nat × Value)} {st : List Value} {sh : List jH} {V : Nat → Nat → Int32} {R : Nat → Nat → Option Nat} {post : Option Value → List jC → Prop} {xp : String → List jC → Prop} {x : Nat} (hM : M.1.cls = RX1) (hT : jReg shX1 sh x) (hd : decode M.2.1 pc = .ok (.getfield 36, 3)) (kk : J G l M d c n (pc + 3) lv (.ref (x + 112) :: st) (mk sh V R) post xp) : J G l M d c n pc lv (.ref x :: st) (mk sh V R) post xp := JV.getf (C := RX1) (T0 := TX1) (N := 16) 7 hd hT.1 (hT.at 0 rfl) rfl in_X1 (by decide) (by rw [hM]; exact q440) rfl rfl kk
abbrev MX1_worldAt : jM := (yX1_worldAt, cX1_worldAt, 3, some (.object "VisitingHours$World"), [])
-- VisitingHours.worldAt(I)LVisitingHours$World;
def wX1_worldAt_14 (x : Nat) (sh : List jH) (a1 : Int32) (Q : (Nat → Nat → Int32) → (Nat → Nat → Option Nat) → Prop) : Nat → (Nat → Nat → Int32) → (Nat → Nat → Option Nat) → Int32 → Prop
  | 0, _, _, _ => False
  | f + 1, V, R, x2 =>
    ((a1 ≤ x2 → Q V R) ∧ (¬ a1 ≤ x2 → (wX1_aWeek x (x + 112) sh R V (0 : Int32) (0 : Int32) (fun r26 V26 => (∀ y30 : Int32, y30 = x2 + (1 : Int32) → wX1_worldAt_14 x sh a1 Q f V26 R y30)))))
theorem rX1_worldAt_14 {G : jG} {l : Launch} {d : Nat} {c n : Nat} (htr : l.stackTraces = false) (hdd : 45 ≤ d) {sh : List jH} {x : Nat} (hT : jReg shX1 sh x) {a1 : Int32} {Q : (Nat → Nat → Int32) → (Nat → Nat → Option Nat) → Prop} : ∀ (f : Nat) (V : Nat → Nat → Int32) (R : Nat → Nat → Option Nat) (x2 : Int32), wX1_worldAt_14 x sh a1 Q f V R x2 → J G l MX1_worldAt d c n 14 [(0, .ref x), (1, .int a1), (2, .int x2)] [] (mk sh V R) (jTe sh (x + 112) Q) jNo := by
  intro f
  induction f with
  | zero =>
    intro V R x2 hw
    rw [wX1_worldAt_14] at hw
    exact hw.elim
  | succ f ih =>
    intro V R x2 hw
    rw [wX1_worldAt_14] at hw
    refine J.iload_n 2 dX1_worldAt_14 rfl ?_
    refine J.iload_n 1 dX1_worldAt_15 rfl ?_
    refine J.icmp_ge 36 dX1_worldAt_16 (by decide) ⟨fun c16 => ?_, fun c16 => ?_⟩
    · obtain ⟨hw, -⟩ := hw
      specialize hw c16
      refine J.aload_n 0 dX1_worldAt_36 rfl ?_
      refine fgX1_36 rfl hT dX1_worldAt_37 ?_
      exact J.aret rfl (Or.inl ⟨_, rfl⟩) (Or.inr ⟨_, rfl⟩) dX1_worldAt_40 ⟨_, _, rfl, rfl, hw⟩
    · obtain ⟨-, hw⟩ := hw
      specialize hw c16
      refine J.aload_n 0 dX1_worldAt_19 rfl ?_
      refine J.aload_n 0 dX1_worldAt_20 rfl ?_
      refine fgX1_36 rfl hT dX1_worldAt_21 ?_
      refine J.iconst (v := (0 : Int32)) dX1_worldAt_24 (by decide) ?_
      refine J.iconst (v := (0 : Int32)) dX1_worldAt_25 (by decide) ?_
      refine uX1_473 rfl htr hT (hT.sub 112 36 rfl) dX1_worldAt_26 (by omega) (Nat.le_of_ble_eq_true rfl) hw ?_
      clear hw
      intro r26 V26 hw
      refine J.pop dX1_worldAt_29 rfl ?_
      refine J.iincN 2 (K := (1 : Int32)) (lv' := fun y30 => [(2, .int y30), (0, .ref x), (1, .int a1)]) dX1_worldAt_30 rfl (by decide) (by decide) (fun _ => rfl) hw ?_
      clear hw
      intro y30 hw
      refine J.goto 14 dX1_worldAt_33 (by decide) ?_
      exact J.pick [1, 2, 0] rfl (ih _ _ _ hw)
def wX1_worldAt (x : Nat) (sh : List jH) (V : Nat → Nat → Int32) (R : Nat → Nat → Option Nat) (a1 : Int32) (Q : (Nat → Nat → Int32) → (Nat → Nat → Option Nat) → Prop) : Prop :=
  (wX2_likens (x + 112) (x + 1) sh V R (fun V8 R8 => (∃ f9, wX1_worldAt_14 x sh a1 Q f9 V8 R8 (0 : Int32))))
theorem mX1_worldAt {G : jG} {l : Launch} {d : Nat} (htr : l.stackTraces = false) (hdd : 45 ≤ d) {sh : List jH} {V : Nat → Nat → Int32} {R : Nat → Nat → Option Nat} {x : Nat} (hT : jReg shX1 sh x) {a1 : Int32} {Q : (Nat → Nat → Int32) → (Nat → Nat → Option Nat) → Prop} (hw : wX1_worldAt x sh V R a1 Q) : JM G l MX1_worldAt d 0 0 [.ref x, .int a1] (mk sh V R) (jTe sh (x + 112) Q) jNo := by
  refine JM.intro (by decide) rfl htr (Nat.le_of_ble_eq_true rfl) ?_
  show J G l MX1_worldAt d 0 0 0 [(0, .ref x), (1, .int a1)] [] (mk sh V R) _ _
  unfold wX1_worldAt at hw
  refine J.aload_n 0 dX1_worldAt_0 rfl ?_
  refine fgX1_36 rfl hT dX1_worldAt_1 ?_
  refine J.aload_n 0 dX1_worldAt_4 rfl ?_
  refine fgX1_10 rfl hT dX1_worldAt_5 ?_
  refine uX1_259 rfl htr (hT.sub 112 36 rfl) (hT.sub 1 36 rfl) dX1_worldAt_8 (by omega) (Nat.le_of_ble_eq_true rfl) hw ?_
  clear hw
  intro V8 R8 hw
  refine J.pop dX1_worldAt_11 rfl ?_
  refine J.iconst (v := (0 : Int32)) dX1_worldAt_12 (by decide) ?_
  refine J.istore_n (lv' := [(2, .int (0 : Int32)), (0, .ref x), (1, .int a1)]) dX1_worldAt_13 (by decide) rfl ?_
  obtain ⟨f9, hw⟩ := hw
  exact J.pick [1, 2, 0] rfl (rX1_worldAt_14 htr hdd hT f9 _ _ _ hw)
theorem fgX1_663 {G : jG} {l : Launch} {M : jM} {d c n pc : Nat} {lv : List (Nat × Value)} {st : List Value} {sh : List jH} {V : Nat → Nat → Int32} {R : Nat → Nat → Option Nat} {post : Option Value → List jC → Prop} {xp : String → List jC → Prop} {w : Nat} (hM : M.1.cls = RX1) (hT : jReg shX2 sh w) (hd : decode M.2.1 pc = .ok (.getfield 663, 3)) (kk : J G l M d c n (pc + 3) lv (.int (V w 21) :: st) (mk sh V R) post xp) : J G l M d c n pc lv (.ref w :: st) (mk sh V R) post xp := JV.getfN (C := RX2) (T0 := TX2) (N := 22) 21 hd hT.1 (hT.at 0 rfl) rfl in_X2 (by decide) (by rw [hM]; exact nw250) rfl rfl kk
abbrev MX1_settle : jM := (yX1_settle, cX1_settle, 3, some .int, [])
theorem uX1_659 {G : jG} {l : Launch} {M : jM} {d c n pc : Nat} {lv : List (Nat × Value)} {rest : List Value} {post : Option Value → List jC → Prop} {xp : String → List jC → Prop} (hM : M.1.cls = RX1) (htr : l.stackTraces = false) {sh : List jH} {V : Nat → Nat → Int32} {R : Nat → Nat → Option Nat} {x : Nat} (hT : jReg shX1 sh x) {a1 : Int32} {Q : (Nat → Nat → Int32) → (Nat → Nat → Option Nat) → Prop} (hd : decode M.2.1 pc = .ok (.invokevirtual 659, 3)) (hdd : 45 + 1 ≤ d) (hw8 : (rest.map fun v => v.category).sum ≤ 8) (hw : wX1_worldAt x sh V R a1 Q) (kk : ∀ V' R', Q V' R' → J G l M d c n (pc + 3) lv (.ref (x + 112) :: rest) (mk sh V' R') post xp) : J G l M d c n pc lv (.int a1 :: .ref x :: rest) (mk sh V R) post xp := by
  exact J.callV (As := [.int a1]) (hcw := by rw [hM]; exact lw_V q2065 q2067 qs66 q144 q2068) (mX1_worldAt htr (Nat.le_refl _) hT hw) hd rfl ⟨0, _, _, mk_at (hT.at 0 rfl), rfl, rfl, fun _ => rfl⟩ ⟨rfl, by decide, by decide, by show _ = some 1; decide +kernel⟩ hw8 ⟨hdd, by decide⟩ jcc0 (fun r9 g9 h9 => by obtain ⟨V9, R9, rfl, rfl, h⟩ := h9; exact kk V9 R9 h) jNo.x
-- VisitingHours.settle(I)I
def wX1_settle_13 (x : Nat) (sh : List jH) (a1 : Int32) (Q : Int32 → (Nat → Nat → Int32) → (Nat → Nat → Option Nat) → Prop) (X : String → (Nat → Nat → Int32) → (Nat → Nat → Option Nat) → Prop) : Nat → (Nat → Nat → Int32) → (Nat → Nat → Option Nat) → Int32 → Prop
  | 0, _, _, _ => False
  | f + 1, V, R, x2 =>
    (((60 : Int32) < x2 → Q (-1 : Int32) V R) ∧ (¬ (60 : Int32) < x2 → (wX1_aWeek x (x + 112) sh R V (0 : Int32) (0 : Int32) (fun r26 V26 => (wX1_has (V26 (x + 112) 21) a1 (fun r38 => ((r38 = 0 → (∀ y46 : Int32, y46 = x2 + (1 : Int32) → wX1_settle_13 x sh a1 Q X f V26 R y46)) ∧ (¬ r38 = 0 → Q x2 V26 R))))))))
theorem rX1_settle_13 {G : jG} {l : Launch} {d : Nat} {c n : Nat} (htr : l.stackTraces = false) (hdd : 46 ≤ d) {sh : List jH} {x : Nat} (hT : jReg shX1 sh x) {a1 : Int32} {Q : Int32 → (Nat → Nat → Int32) → (Nat → Nat → Option Nat) → Prop} {X : String → (Nat → Nat → Int32) → (Nat → Nat → Option Nat) → Prop} (hb : (∀ E V' R', ¬ X E V' R') ∨ 1 ≤ c ∧ 6 ≤ n) : ∀ (f : Nat) (V : Nat → Nat → Int32) (R : Nat → Nat → Option Nat) (x2 : Int32), wX1_settle_13 x sh a1 Q X f V R x2 → J G l MX1_settle d c n 13 [(0, .ref x), (1, .int a1), (2, .int x2)] [] (mk sh V R) (jTr sh Q) (jTx sh X) := by
  intro f
  induction f with
  | zero =>
    intro V R x2 hw
    rw [wX1_settle_13] at hw
    exact hw.elim
  | succ f ih =>
    intro V R x2 hw
    rw [wX1_settle_13] at hw
    refine J.iload_n 2 dX1_settle_13 rfl ?_
    refine J.bipush (v := (60 : Int32)) dX1_settle_14 (by decide) ?_
    refine J.icmp_gt 52 dX1_settle_16 (by decide) ⟨fun c16 => ?_, fun c16 => ?_⟩
    · obtain ⟨hw, -⟩ := hw
      specialize hw c16
      refine J.iconst (v := (-1 : Int32)) dX1_settle_52 (by decide) ?_
      exact J.iret rfl dX1_settle_53 ⟨_, _, rfl, _, rfl, hw⟩
    · obtain ⟨-, hw⟩ := hw
      specialize hw c16
      refine J.aload_n 0 dX1_settle_19 rfl ?_
      refine J.aload_n 0 dX1_settle_20 rfl ?_
      refine fgX1_36 rfl hT dX1_settle_21 ?_
      refine J.iconst (v := (0 : Int32)) dX1_settle_24 (by decide) ?_
      refine J.iconst (v := (0 : Int32)) dX1_settle_25 (by decide) ?_
      refine uX1_473 rfl htr hT (hT.sub 112 36 rfl) dX1_settle_26 (by omega) (Nat.le_of_ble_eq_true rfl) hw ?_
      clear hw
      intro r26 V26 hw
      refine J.pop dX1_settle_29 rfl ?_
      refine J.aload_n 0 dX1_settle_30 rfl ?_
      refine fgX1_36 rfl hT dX1_settle_31 ?_
      refine fgX1_663 rfl (hT.sub 112 36 rfl) dX1_settle_34 ?_
      refine J.iload_n 1 dX1_settle_37 rfl ?_
      refine uX1_128 rfl htr dX1_settle_38 (by omega) (Nat.le_of_ble_eq_true rfl) hw ?_
      clear hw
      intro r38 hw
      refine J.if_eq 46 dX1_settle_41 (by decide) ⟨fun c41 => ?_, fun c41 => ?_⟩
      · obtain ⟨hw, -⟩ := hw
        specialize hw c41
        refine J.iincN 2 (K := (1 : Int32)) (lv' := fun y46 => [(2, .int y46), (0, .ref x), (1, .int a1)]) dX1_settle_46 rfl (by decide) (by decide) (fun _ => rfl) hw ?_
        clear hw
        intro y46 hw
        refine J.goto 13 dX1_settle_49 (by decide) ?_
        exact J.pick [1, 2, 0] rfl (ih _ _ _ hw)
      · obtain ⟨-, hw⟩ := hw
        specialize hw c41
        refine J.iload_n 2 dX1_settle_44 rfl ?_
        exact J.iret rfl dX1_settle_45 ⟨_, _, rfl, _, rfl, hw⟩
def wX1_settle (x : Nat) (sh : List jH) (V : Nat → Nat → Int32) (R : Nat → Nat → Option Nat) (a1 : Int32) (Q : Int32 → (Nat → Nat → Int32) → (Nat → Nat → Option Nat) → Prop) (X : String → (Nat → Nat → Int32) → (Nat → Nat → Option Nat) → Prop) : Prop :=
  ((wX1_hostAt x V a1 ((wX1_worldAt x sh V R (0 : Int32) (fun V7 R7 => (∃ f9, wX1_settle_13 x sh a1 Q X f9 V7 R7 (1 : Int32))))) (fun _ => False)) ∨ (wX1_hostAt x V a1 False (fun E9 => X E9 V R)))
theorem mX1_settle {G : jG} {l : Launch} {d : Nat} {c n : Nat} (htr : l.stackTraces = false) (hdd : 46 ≤ d) {sh : List jH} {V : Nat → Nat → Int32} {R : Nat → Nat → Option Nat} {x : Nat} (hT : jReg shX1 sh x) {a1 : Int32} {Q : Int32 → (Nat → Nat → Int32) → (Nat → Nat → Option Nat) → Prop} {X : String → (Nat → Nat → Int32) → (Nat → Nat → Option Nat) → Prop} (hw : wX1_settle x sh V R a1 Q X) (hb : (∀ E V' R', ¬ X E V' R') ∨ 1 ≤ c ∧ 6 ≤ n) : JM G l MX1_settle d c n [.ref x, .int a1] (mk sh V R) (jTr sh Q) (jTx sh X) := by
  refine JM.intro (by decide) rfl htr (Nat.le_of_ble_eq_true rfl) ?_
  show J G l MX1_settle d c n 0 [(0, .ref x), (1, .int a1)] [] (mk sh V R) _ _
  unfold wX1_settle at hw
  refine J.aload_n 0 dX1_settle_0 rfl ?_
  refine J.iload_n 1 dX1_settle_1 rfl ?_
  rcases hw with hw | hw
  rotate_left
  · refine uxX1_489 rfl htr hT dX1_settle_2 (by omega) (Nat.le_of_ble_eq_true rfl) hw (hb.imp (fun h9 _ h8 => h9 _ _ _ h8) id) ?_
    exact fun E9 h9 => JX.out (by rfl) ⟨_, _, rfl, h9⟩
  refine uX1_489 rfl htr hT dX1_settle_2 (by omega) (Nat.le_of_ble_eq_true rfl) hw ?_
  clear hw
  intro hw
  refine J.aload_n 0 dX1_settle_5 rfl ?_
  refine J.iconst (v := (0 : Int32)) dX1_settle_6 (by decide) ?_
  refine uX1_659 rfl htr hT dX1_settle_7 (by omega) (Nat.le_of_ble_eq_true rfl) hw ?_
  clear hw
  intro V7 R7 hw
  refine J.pop dX1_settle_10 rfl ?_
  refine J.iconst (v := (1 : Int32)) dX1_settle_11 (by decide) ?_
  refine J.istore_n (lv' := [(2, .int (1 : Int32)), (0, .ref x), (1, .int a1)]) dX1_settle_12 (by decide) rfl ?_
  obtain ⟨f9, hw⟩ := hw
  exact J.pick [1, 2, 0] rfl (rX1_settle_13 htr hdd hT hb f9 _ _ _ hw)
abbrev MX1_gladder : jM := (yX1_gladder, cX1_gladder, 2, some .int, [])
theorem uX1_666 {G : jG} {l : Launch} {M : jM} {d c n pc : Nat} {lv : List (Nat × Value)} {rest : List Value} {post : Option Value → List jC → Prop} {xp : String → List jC → Prop} (hM : M.1.cls = RX1) (htr : l.stackTraces = false) {sh : List jH} {V : Nat → Nat → Int32} {R : Nat → Nat → Option Nat} {a1 : Int32} {Q : Prop} (hd : decode M.2.1 pc = .ok (.invokestatic 666, 3)) (hdd : 9 + 1 ≤ d) (hw8 : (rest.map fun v => v.category).sum ≤ 8) (hw : wX1_aheadBy a1 Q (fun _ => False)) (kk : Q → J G l M d c n (pc + 3) lv rest (mk sh V R) post xp) : J G l M d c n pc lv (.int a1 :: rest) (mk sh V R) post xp := by
  exact J.callS (c' := 0) (n' := 0) (As := [.int a1]) (hcw := by rw [hM]; exact lw_S q2076 q2077 q144 q2078) (mX1_aheadBy htr hw (Or.inl (fun _ h => h))) hd rfl ⟨by decide, by decide, by show _ = some 1; decide +kernel⟩ hw8 ⟨hdd, by decide⟩ jcc0 (fun r9 g9 h9 => by obtain ⟨rfl, rfl, h⟩ := h9; exact kk h) (fun E9 g9 h9 => by obtain ⟨_, h⟩ := h9; exact h.elim)
theorem uxX1_666 {G : jG} {l : Launch} {M : jM} {d c n pc : Nat} {lv : List (Nat × Value)} {rest : List Value} {post : Option Value → List jC → Prop} {xp : String → List jC → Prop} (hM : M.1.cls = RX1) (htr : l.stackTraces = false) {sh : List jH} {V : Nat → Nat → Int32} {R : Nat → Nat → Option Nat} {a1 : Int32} {X : String → Prop} (hd : decode M.2.1 pc = .ok (.invokestatic 666, 3)) (hdd : 9 + 1 ≤ d) (hw8 : (rest.map fun v => v.category).sum ≤ 8) (hw : wX1_aheadBy a1 False X) (hb : (∀ E, ¬ X E) ∨ 1 ≤ c ∧ 6 ≤ n) (kx : ∀ E, X E → JX G l M d 0 0 pc lv E (mk sh V R) post xp) : J G l M d c n pc lv (.int a1 :: rest) (mk sh V R) post xp := by
  exact J.callS (c := 0) (n := 0) (c' := c) (n' := n) (As := [.int a1]) (hcw := by rw [hM]; exact lw_S q2076 q2077 q144 q2078) (mX1_aheadBy htr hw hb) hd rfl ⟨by decide, by decide, by show _ = some 1; decide +kernel⟩ hw8 ⟨hdd, by decide⟩ ⟨by omega, by omega⟩ (fun r9 g9 h9 => by obtain ⟨_, _, h⟩ := h9; exact h.elim) (fun E9 g9 h9 => by obtain ⟨rfl, h⟩ := h9; exact kx E9 h)
-- VisitingHours.gladder(I)I
def wX1_gladder (x : Nat) (sh : List jH) (V : Nat → Nat → Int32) (R : Nat → Nat → Option Nat) (a1 : Int32) (Q : Int32 → (Nat → Nat → Int32) → (Nat → Nat → Option Nat) → Prop) (X : String → (Nat → Nat → Int32) → (Nat → Nat → Option Nat) → Prop) : Prop :=
  ((wX1_aheadBy a1 ((wX1_worldAt x sh V R a1 (fun V6 R6 => (wX2_gladness (x + 112) V6 (fun r9 => (wX2_gladness (x + 1) V6 (fun r16 => Q (r9 - r16) V6 R6))))))) (fun _ => False)) ∨ (wX1_aheadBy a1 False (fun E9 => X E9 V R)))
theorem mX1_gladder {G : jG} {l : Launch} {d : Nat} {c n : Nat} (htr : l.stackTraces = false) (hdd : 46 ≤ d) {sh : List jH} {V : Nat → Nat → Int32} {R : Nat → Nat → Option Nat} {x : Nat} (hT : jReg shX1 sh x) {a1 : Int32} {Q : Int32 → (Nat → Nat → Int32) → (Nat → Nat → Option Nat) → Prop} {X : String → (Nat → Nat → Int32) → (Nat → Nat → Option Nat) → Prop} (hw : wX1_gladder x sh V R a1 Q X) (hb : (∀ E V' R', ¬ X E V' R') ∨ 1 ≤ c ∧ 6 ≤ n) : JM G l MX1_gladder d c n [.ref x, .int a1] (mk sh V R) (jTr sh Q) (jTx sh X) := by
  refine JM.intro (by decide) rfl htr (Nat.le_of_ble_eq_true rfl) ?_
  show J G l MX1_gladder d c n 0 [(0, .ref x), (1, .int a1)] [] (mk sh V R) _ _
  unfold wX1_gladder at hw
  refine J.iload_n 1 dX1_gladder_0 rfl ?_
  rcases hw with hw | hw
  rotate_left
  · refine uxX1_666 rfl htr dX1_gladder_1 (by omega) (Nat.le_of_ble_eq_true rfl) hw (hb.imp (fun h9 _ h8 => h9 _ _ _ h8) id) ?_
    exact fun E9 h9 => JX.out (by rfl) ⟨_, _, rfl, h9⟩
  refine uX1_666 rfl htr dX1_gladder_1 (by omega) (Nat.le_of_ble_eq_true rfl) hw ?_
  clear hw
  intro hw
  refine J.aload_n 0 dX1_gladder_4 rfl ?_
  refine J.iload_n 1 dX1_gladder_5 rfl ?_
  refine uX1_659 rfl htr hT dX1_gladder_6 (by omega) (Nat.le_of_ble_eq_true rfl) hw ?_
  clear hw
  intro V6 R6 hw
  refine uX1_501 rfl htr (hT.sub 112 36 rfl) dX1_gladder_9 (by omega) (Nat.le_of_ble_eq_true rfl) hw ?_
  clear hw
  intro r9 hw
  refine J.aload_n 0 dX1_gladder_12 rfl ?_
  refine fgX1_10 rfl hT dX1_gladder_13 ?_
  refine uX1_501 rfl htr (hT.sub 1 36 rfl) dX1_gladder_16 (by omega) (Nat.le_of_ble_eq_true rfl) hw ?_
  clear hw
  intro r16 hw
  refine J.isub dX1_gladder_19 ?_
  exact J.iret rfl dX1_gladder_20 ⟨_, _, rfl, _, rfl, hw⟩
abbrev MX1_ahead : jM := (yX1_ahead, cX1_ahead, 5, some .int, [])
theorem uX1_504 {G : jG} {l : Launch} {M : jM} {d c n pc : Nat} {lv : List (Nat × Value)} {rest : List Value} {post : Option Value → List jC → Prop} {xp : String → List jC → Prop} (hM : M.1.cls = RX1) (htr : l.stackTraces = false) {sh : List jH} {V : Nat → Nat → Int32} {R : Nat → Nat → Option Nat} {a1 : Int32} {a2 : Int32} {Q : Prop} (hd : decode M.2.1 pc = .ok (.invokestatic 504, 3)) (hdd : 8 + 1 ≤ d) (hw8 : (rest.map fun v => v.category).sum ≤ 8) (hw : wX1_question a1 a2 Q (fun _ => False)) (kk : Q → J G l M d c n (pc + 3) lv rest (mk sh V R) post xp) : J G l M d c n pc lv (.int a2 :: .int a1 :: rest) (mk sh V R) post xp := by
  exact J.callS (c' := 0) (n' := 0) (As := [.int a1, .int a2]) (hcw := by rw [hM]; exact lw_S q1683 q1684 q144 q1685) (mX1_question htr hw (Or.inl (fun _ h => h))) hd rfl ⟨by decide, by decide, by show _ = some 2; decide +kernel⟩ hw8 ⟨hdd, by decide⟩ jcc0 (fun r9 g9 h9 => by obtain ⟨rfl, rfl, h⟩ := h9; exact kk h) (fun E9 g9 h9 => by obtain ⟨_, h⟩ := h9; exact h.elim)
theorem uxX1_504 {G : jG} {l : Launch} {M : jM} {d c n pc : Nat} {lv : List (Nat × Value)} {rest : List Value} {post : Option Value → List jC → Prop} {xp : String → List jC → Prop} (hM : M.1.cls = RX1) (htr : l.stackTraces = false) {sh : List jH} {V : Nat → Nat → Int32} {R : Nat → Nat → Option Nat} {a1 : Int32} {a2 : Int32} {X : String → Prop} (hd : decode M.2.1 pc = .ok (.invokestatic 504, 3)) (hdd : 8 + 1 ≤ d) (hw8 : (rest.map fun v => v.category).sum ≤ 8) (hw : wX1_question a1 a2 False X) (hb : (∀ E, ¬ X E) ∨ 1 ≤ c ∧ 6 ≤ n) (kx : ∀ E, X E → JX G l M d 0 0 pc lv E (mk sh V R) post xp) : J G l M d c n pc lv (.int a2 :: .int a1 :: rest) (mk sh V R) post xp := by
  exact J.callS (c := 0) (n := 0) (c' := c) (n' := n) (As := [.int a1, .int a2]) (hcw := by rw [hM]; exact lw_S q1683 q1684 q144 q1685) (mX1_question htr hw hb) hd rfl ⟨by decide, by decide, by show _ = some 2; decide +kernel⟩ hw8 ⟨hdd, by decide⟩ ⟨by omega, by omega⟩ (fun r9 g9 h9 => by obtain ⟨_, _, h⟩ := h9; exact h.elim) (fun E9 g9 h9 => by obtain ⟨rfl, h⟩ := h9; exact kx E9 h)
-- VisitingHours.ahead(III)I
def wX1_ahead (x : Nat) (sh : List jH) (V : Nat → Nat → Int32) (R : Nat → Nat → Option Nat) (a1 : Int32) (a2 : Int32) (a3 : Int32) (Q : Int32 → (Nat → Nat → Int32) → (Nat → Nat → Option Nat) → Prop) (X : String → (Nat → Nat → Int32) → (Nat → Nat → Option Nat) → Prop) : Prop :=
  ((wX1_hostAt x V a1 (((wX1_aheadBy a2 (((wX1_question a3 (1 : Int32) ((wX1_worldAt x sh V R a2 (fun V16 R16 => ((¬ a3 = 0 → (vp_in a1 8 ∧ Q (V16 ((x + 112) + 4) a1.toNatClampNeg) V16 R16)) ∧ (a3 = 0 → (vp_in a1 8 ∧ Q (V16 ((x + 112) + 3) a1.toNatClampNeg) V16 R16)))))) (fun _ => False)) ∨ (wX1_question a3 (1 : Int32) False (fun E9 => X E9 V R)))) (fun _ => False)) ∨ (wX1_aheadBy a2 False (fun E9 => X E9 V R)))) (fun _ => False)) ∨ (wX1_hostAt x V a1 False (fun E9 => X E9 V R)))
theorem mX1_ahead {G : jG} {l : Launch} {d : Nat} {c n : Nat} (htr : l.stackTraces = false) (hdd : 46 ≤ d) {sh : List jH} {V : Nat → Nat → Int32} {R : Nat → Nat → Option Nat} {x : Nat} (hT : jReg shX1 sh x) {a1 : Int32} {a2 : Int32} {a3 : Int32} {Q : Int32 → (Nat → Nat → Int32) → (Nat → Nat → Option Nat) → Prop} {X : String → (Nat → Nat → Int32) → (Nat → Nat → Option Nat) → Prop} (hw : wX1_ahead x sh V R a1 a2 a3 Q X) (hb : (∀ E V' R', ¬ X E V' R') ∨ 1 ≤ c ∧ 6 ≤ n) : JM G l MX1_ahead d c n [.ref x, .int a1, .int a2, .int a3] (mk sh V R) (jTr sh Q) (jTx sh X) := by
  refine JM.intro (by decide) rfl htr (Nat.le_of_ble_eq_true rfl) ?_
  show J G l MX1_ahead d c n 0 [(0, .ref x), (1, .int a1), (2, .int a2), (3, .int a3)] [] (mk sh V R) _ _
  unfold wX1_ahead at hw
  refine J.aload_n 0 dX1_ahead_0 rfl ?_
  refine J.iload_n 1 dX1_ahead_1 rfl ?_
  rcases hw with hw | hw
  rotate_left
  · refine uxX1_489 rfl htr hT dX1_ahead_2 (by omega) (Nat.le_of_ble_eq_true rfl) hw (hb.imp (fun h9 _ h8 => h9 _ _ _ h8) id) ?_
    exact fun E9 h9 => JX.out (by rfl) ⟨_, _, rfl, h9⟩
  refine uX1_489 rfl htr hT dX1_ahead_2 (by omega) (Nat.le_of_ble_eq_true rfl) hw ?_
  clear hw
  intro hw
  refine J.iload_n 2 dX1_ahead_5 rfl ?_
  rcases hw with hw | hw
  rotate_left
  · refine uxX1_666 rfl htr dX1_ahead_6 (by omega) (Nat.le_of_ble_eq_true rfl) hw (hb.imp (fun h9 _ h8 => h9 _ _ _ h8) id) ?_
    exact fun E9 h9 => JX.out (by rfl) ⟨_, _, rfl, h9⟩
  refine uX1_666 rfl htr dX1_ahead_6 (by omega) (Nat.le_of_ble_eq_true rfl) hw ?_
  clear hw
  intro hw
  refine J.iload_n 3 dX1_ahead_9 rfl ?_
  refine J.iconst (v := (1 : Int32)) dX1_ahead_10 (by decide) ?_
  rcases hw with hw | hw
  rotate_left
  · refine uxX1_504 rfl htr dX1_ahead_11 (by omega) (Nat.le_of_ble_eq_true rfl) hw (hb.imp (fun h9 _ h8 => h9 _ _ _ h8) id) ?_
    exact fun E9 h9 => JX.out (by rfl) ⟨_, _, rfl, h9⟩
  refine uX1_504 rfl htr dX1_ahead_11 (by omega) (Nat.le_of_ble_eq_true rfl) hw ?_
  clear hw
  intro hw
  refine J.aload_n 0 dX1_ahead_14 rfl ?_
  refine J.iload_n 2 dX1_ahead_15 rfl ?_
  refine uX1_659 rfl htr hT dX1_ahead_16 (by omega) (Nat.le_of_ble_eq_true rfl) hw ?_
  clear hw
  intro V16 R16 hw
  refine J.astore (lv' := [(4, .ref (x + 112)), (0, .ref x), (1, .int a1), (2, .int a2), (3, .int a3)]) dX1_ahead_19 (by decide) rfl ?_
  refine J.iload_n 4 dX1_ahead_21 rfl ?_
  refine J.if_ne 35 dX1_ahead_22 (by decide) ⟨fun c22 => ?_, fun c22 => ?_⟩
  · obtain ⟨hw, -⟩ := hw
    specialize hw c22
    refine J.aload 0 dX1_ahead_35 rfl ?_
    refine fgX1_148 rfl (hT.sub 112 36 rfl) dX1_ahead_37 ?_
    refine J.iload_n 2 dX1_ahead_40 rfl ?_
    obtain ⟨h41, hw⟩ := hw
    refine JV.iald dX1_ahead_41 ((hT.sub 112 36 rfl).ge 4) ((hT.sub 112 36 rfl).at 4 rfl) h41 ?_
    exact J.iret rfl dX1_ahead_42 ⟨_, _, rfl, _, rfl, hw⟩
  · obtain ⟨-, hw⟩ := hw
    specialize hw c22
    refine J.aload 0 dX1_ahead_25 rfl ?_
    refine fgX1_145 rfl (hT.sub 112 36 rfl) dX1_ahead_27 ?_
    refine J.iload_n 2 dX1_ahead_30 rfl ?_
    obtain ⟨h31, hw⟩ := hw
    refine JV.iald dX1_ahead_31 ((hT.sub 112 36 rfl).ge 3) ((hT.sub 112 36 rfl).at 3 rfl) h31 ?_
    refine J.goto 42 dX1_ahead_32 (by decide) ?_
    exact J.iret rfl dX1_ahead_42 ⟨_, _, rfl, _, rfl, hw⟩
theorem fgX1_71 {G : jG} {l : Launch} {M : jM} {d c n pc : Nat} {lv : List (Nat × Value)} {st : List Value} {sh : List jH} {V : Nat → Nat → Int32} {R : Nat → Nat → Option Nat} {post : Option Value → List jC → Prop} {xp : String → List jC → Prop} {x : Nat} (hM : M.1.cls = RX1) (hT : jReg shX1 sh x) (hd : decode M.2.1 pc = .ok (.getfield 71, 3)) (kk : J G l M d c n (pc + 3) lv (.ref (x + 160) :: st) (mk sh V R) post xp) : J G l M d c n pc lv (.ref x :: st) (mk sh V R) post xp := JV.getf (C := RX1) (T0 := TX1) (N := 16) 15 hd hT.1 (hT.at 0 rfl) rfl in_X1 (by decide) (by rw [hM]; exact q448) rfl rfl kk
abbrev MX1_tries : jM := (yX1_tries, cX1_tries, 3, none, [])
-- VisitingHours.tries(I)V
def wX1_tries_2 (x : Nat) (sh : List jH) (R : Nat → Nat → Option Nat) (a1 : Int32) (Q : (Nat → Nat → Int32) → Prop) : Nat → (Nat → Nat → Int32) → Int32 → Prop
  | 0, _, _ => False
  | f + 1, V, x2 =>
    ((a1 ≤ x2 → Q V) ∧ (¬ a1 ≤ x2 → (wX1_aWeek x (x + 160) sh R V (1 : Int32) (0 : Int32) (fun r14 V14 => (∀ y18 : Int32, y18 = x2 + (1 : Int32) → wX1_tries_2 x sh R a1 Q f V14 y18)))))
theorem rX1_tries_2 {G : jG} {l : Launch} {d : Nat} {c n : Nat} (htr : l.stackTraces = false) (hdd : 45 ≤ d) {sh : List jH} {R : Nat → Nat → Option Nat} {x : Nat} (hT : jReg shX1 sh x) {a1 : Int32} {Q : (Nat → Nat → Int32) → Prop} : ∀ (f : Nat) (V : Nat → Nat → Int32) (x2 : Int32), wX1_tries_2 x sh R a1 Q f V x2 → J G l MX1_tries d c n 2 [(0, .ref x), (1, .int a1), (2, .int x2)] [] (mk sh V R) (jWv sh R Q) jNo := by
  intro f
  induction f with
  | zero =>
    intro V x2 hw
    rw [wX1_tries_2] at hw
    exact hw.elim
  | succ f ih =>
    intro V x2 hw
    rw [wX1_tries_2] at hw
    refine J.iload_n 2 dX1_tries_2 rfl ?_
    refine J.iload_n 1 dX1_tries_3 rfl ?_
    refine J.icmp_ge 24 dX1_tries_4 (by decide) ⟨fun c4 => ?_, fun c4 => ?_⟩
    · obtain ⟨hw, -⟩ := hw
      specialize hw c4
      exact J.vret rfl dX1_tries_24 ⟨_, rfl, rfl, hw⟩
    · obtain ⟨-, hw⟩ := hw
      specialize hw c4
      refine J.aload_n 0 dX1_tries_7 rfl ?_
      refine J.aload_n 0 dX1_tries_8 rfl ?_
      refine fgX1_71 rfl hT dX1_tries_9 ?_
      refine J.iconst (v := (1 : Int32)) dX1_tries_12 (by decide) ?_
      refine J.iconst (v := (0 : Int32)) dX1_tries_13 (by decide) ?_
      refine uX1_473 rfl htr hT (hT.sub 160 36 rfl) dX1_tries_14 (by omega) (Nat.le_of_ble_eq_true rfl) hw ?_
      clear hw
      intro r14 V14 hw
      refine J.pop dX1_tries_17 rfl ?_
      refine J.iincN 2 (K := (1 : Int32)) (lv' := fun y18 => [(2, .int y18), (0, .ref x), (1, .int a1)]) dX1_tries_18 rfl (by decide) (by decide) (fun _ => rfl) hw ?_
      clear hw
      intro y18 hw
      refine J.goto 2 dX1_tries_21 (by decide) ?_
      exact J.pick [1, 2, 0] rfl (ih _ _ hw)
def wX1_tries (x : Nat) (sh : List jH) (R : Nat → Nat → Option Nat) (V : Nat → Nat → Int32) (a1 : Int32) (Q : (Nat → Nat → Int32) → Prop) : Prop :=
  (∃ f9, wX1_tries_2 x sh R a1 Q f9 V (0 : Int32))
theorem mX1_tries {G : jG} {l : Launch} {d : Nat} (htr : l.stackTraces = false) (hdd : 45 ≤ d) {sh : List jH} {R : Nat → Nat → Option Nat} {V : Nat → Nat → Int32} {x : Nat} (hT : jReg shX1 sh x) {a1 : Int32} {Q : (Nat → Nat → Int32) → Prop} (hw : wX1_tries x sh R V a1 Q) : JM G l MX1_tries d 0 0 [.ref x, .int a1] (mk sh V R) (jWv sh R Q) jNo := by
  refine JM.intro (by decide) rfl htr (Nat.le_of_ble_eq_true rfl) ?_
  show J G l MX1_tries d 0 0 0 [(0, .ref x), (1, .int a1)] [] (mk sh V R) _ _
  unfold wX1_tries at hw
  refine J.iconst (v := (0 : Int32)) dX1_tries_0 (by decide) ?_
  refine J.istore_n (lv' := [(2, .int (0 : Int32)), (0, .ref x), (1, .int a1)]) dX1_tries_1 (by decide) rfl ?_
  obtain ⟨f9, hw⟩ := hw
  exact J.pick [1, 2, 0] rfl (rX1_tries_2 htr hdd hT f9 _ _ hw)
abbrev MX1_trial : jM := (yX1_trial, cX1_trial, 3, some .int, [])
theorem uX1_669 {G : jG} {l : Launch} {M : jM} {d c n pc : Nat} {lv : List (Nat × Value)} {rest : List Value} {post : Option Value → List jC → Prop} {xp : String → List jC → Prop} (hM : M.1.cls = RX1) (htr : l.stackTraces = false) {sh : List jH} {V : Nat → Nat → Int32} {R : Nat → Nat → Option Nat} {x : Nat} (hT : jReg shX1 sh x) {a1 : Int32} {Q : (Nat → Nat → Int32) → Prop} (hd : decode M.2.1 pc = .ok (.invokevirtual 669, 3)) (hdd : 45 + 1 ≤ d) (hw8 : (rest.map fun v => v.category).sum ≤ 8) (hw : wX1_tries x sh R V a1 Q) (kk : ∀ V', Q V' → J G l M d c n (pc + 3) lv rest (mk sh V' R) post xp) : J G l M d c n pc lv (.int a1 :: .ref x :: rest) (mk sh V R) post xp := by
  exact J.callV (As := [.int a1]) (hcw := by rw [hM]; exact lw_V q2093 q2095 qs67 q144 q2096) (mX1_tries htr (Nat.le_refl _) hT hw) hd rfl ⟨0, _, _, mk_at (hT.at 0 rfl), rfl, rfl, fun _ => rfl⟩ ⟨rfl, by decide, by decide, by show _ = some 1; decide +kernel⟩ hw8 ⟨hdd, by decide⟩ jcc0 (fun r9 g9 h9 => by obtain ⟨V9, rfl, rfl, h⟩ := h9; exact kk V9 h) jNo.x
-- VisitingHours.trial(IZ)I
def wX1_trial (x : Nat) (sh : List jH) (V : Nat → Nat → Int32) (R : Nat → Nat → Option Nat) (a1 : Int32) (a2 : Int32) (Q : Int32 → (Nat → Nat → Int32) → (Nat → Nat → Option Nat) → Prop) (X : String → (Nat → Nat → Int32) → (Nat → Nat → Option Nat) → Prop) : Prop :=
  (wX1_in a1 (0 : Int32) (60 : Int32) (fun r4 => ((wX1_demand r4 ((wX2_likens (x + 160) (x + 1) sh V R (fun V18 R18 => (wX1_tries x sh R18 V18 a1 (fun V24 => ((a2 = 0 → (wX2_gladness (x + 160) V24 (fun r45 => Q r45 V24 R18))) ∧ (¬ a2 = 0 → Q (V24 (x + 160) 21) V24 R18))))))) (fun _ => False)) ∨ (wX1_demand r4 False (fun E9 => X E9 V R)))))
theorem mX1_trial {G : jG} {l : Launch} {d : Nat} {c n : Nat} (htr : l.stackTraces = false) (hdd : 46 ≤ d) {sh : List jH} {V : Nat → Nat → Int32} {R : Nat → Nat → Option Nat} {x : Nat} (hT : jReg shX1 sh x) {a1 : Int32} {a2 : Int32} {Q : Int32 → (Nat → Nat → Int32) → (Nat → Nat → Option Nat) → Prop} {X : String → (Nat → Nat → Int32) → (Nat → Nat → Option Nat) → Prop} (hw : wX1_trial x sh V R a1 a2 Q X) (hb : (∀ E V' R', ¬ X E V' R') ∨ 1 ≤ c ∧ 6 ≤ n) : JM G l MX1_trial d c n [.ref x, .int a1, .int a2] (mk sh V R) (jTr sh Q) (jTx sh X) := by
  refine JM.intro (by decide) rfl htr (Nat.le_of_ble_eq_true rfl) ?_
  show J G l MX1_trial d c n 0 [(0, .ref x), (1, .int a1), (2, .int a2)] [] (mk sh V R) _ _
  unfold wX1_trial at hw
  refine J.iload_n 1 dX1_trial_0 rfl ?_
  refine J.iconst (v := (0 : Int32)) dX1_trial_1 (by decide) ?_
  refine J.bipush (v := (60 : Int32)) dX1_trial_2 (by decide) ?_
  refine uX1_124 rfl htr dX1_trial_4 (by omega) (Nat.le_of_ble_eq_true rfl) hw ?_
  clear hw
  intro r4 hw
  rcases hw with hw | hw
  rotate_left
  · refine uxX1_498 rfl htr dX1_trial_7 (by omega) (Nat.le_of_ble_eq_true rfl) hw (hb.imp (fun h9 _ h8 => h9 _ _ _ h8) id) ?_
    exact fun E9 h9 => JX.out (by rfl) ⟨_, _, rfl, h9⟩
  refine uX1_498 rfl htr dX1_trial_7 (by omega) (Nat.le_of_ble_eq_true rfl) hw ?_
  clear hw
  intro hw
  refine J.aload_n 0 dX1_trial_10 rfl ?_
  refine fgX1_71 rfl hT dX1_trial_11 ?_
  refine J.aload_n 0 dX1_trial_14 rfl ?_
  refine fgX1_10 rfl hT dX1_trial_15 ?_
  refine uX1_259 rfl htr (hT.sub 160 36 rfl) (hT.sub 1 36 rfl) dX1_trial_18 (by omega) (Nat.le_of_ble_eq_true rfl) hw ?_
  clear hw
  intro V18 R18 hw
  refine J.pop dX1_trial_21 rfl ?_
  refine J.aload_n 0 dX1_trial_22 rfl ?_
  refine J.iload_n 1 dX1_trial_23 rfl ?_
  refine uX1_669 rfl htr hT dX1_trial_24 (by omega) (Nat.le_of_ble_eq_true rfl) hw ?_
  clear hw
  intro V24 hw
  refine J.iload_n 2 dX1_trial_27 rfl ?_
  refine J.if_eq 41 dX1_trial_28 (by decide) ⟨fun c28 => ?_, fun c28 => ?_⟩
  · obtain ⟨hw, -⟩ := hw
    specialize hw c28
    refine J.aload_n 0 dX1_trial_41 rfl ?_
    refine fgX1_71 rfl hT dX1_trial_42 ?_
    refine uX1_501 rfl htr (hT.sub 160 36 rfl) dX1_trial_45 (by omega) (Nat.le_of_ble_eq_true rfl) hw ?_
    clear hw
    intro r45 hw
    exact J.iret rfl dX1_trial_48 ⟨_, _, rfl, _, rfl, hw⟩
  · obtain ⟨-, hw⟩ := hw
    specialize hw c28
    refine J.aload_n 0 dX1_trial_31 rfl ?_
    refine fgX1_71 rfl hT dX1_trial_32 ?_
    refine fgX1_663 rfl (hT.sub 160 36 rfl) dX1_trial_35 ?_
    refine J.goto 48 dX1_trial_38 (by decide) ?_
    exact J.iret rfl dX1_trial_48 ⟨_, _, rfl, _, rfl, hw⟩
theorem fpX1_672 {G : jG} {l : Launch} {M : jM} {d c n pc : Nat} {lv : List (Nat × Value)} {st : List Value} {sh : List jH} {V : Nat → Nat → Int32} {R : Nat → Nat → Option Nat} {post : Option Value → List jC → Prop} {xp : String → List jC → Prop} {w : Nat} (hM : M.1.cls = RX1) (hT : jReg shX2 sh w) {x9 : Int32} (hd : decode M.2.1 pc = .ok (.putfield 672, 3)) (kk : J G l M d c n (pc + 3) lv st (mk sh (vset V w 8 x9) R) post xp) : J G l M d c n pc lv (.int x9 :: .ref w :: st) (mk sh V R) post xp := JV.putiN (C := RX2) (T0 := TX2) (N := 22) (o := 0) 8 hd hT.1 (hT.at 0 rfl) rfl in_X2 tyX2 tyX2_ok nmX2 (by decide) (by rw [hM]; exact nw222) rfl rfl (ji_put x9) rfl kk
abbrev MX1_span : jM := (yX1_span, cX1_span, 6, some .int, [])
-- VisitingHours.span(IZ)I
def wX1_span_15 (x : Nat) (sh : List jH) (a1 : Int32) (a2 : Int32) (Q : Int32 → (Nat → Nat → Int32) → (Nat → Nat → Option Nat) → Prop) (X : String → (Nat → Nat → Int32) → (Nat → Nat → Option Nat) → Prop) : Nat → (Nat → Nat → Int32) → (Nat → Nat → Option Nat) → Int32 → Int32 → Prop
  | 0, _, _, _, _ => False
  | f + 1, V, R, x3, x4 =>
    (((6 : Int32) < x4 → Q x3 V R) ∧ (¬ (6 : Int32) < x4 → (wX2_likens (x + 160) (x + 1) sh V R (fun V30 R30 => (wX1_tries x sh R30 (vset V30 (x + 160) 8 x4) a1 (fun V45 => (wX2_gladness (x + 160) V45 (fun r52 => ((¬ x3 = (-1 : Int32) → ((a2 = 0 → (∀ y86 : Int32, y86 = (if r52 < x3 then r52 else x3) → (∀ y87 : Int32, y87 = x4 + (1 : Int32) → wX1_span_15 x sh a1 a2 Q X f V45 R30 y86 y87))) ∧ (¬ a2 = 0 → (∀ y86 : Int32, y86 = (if x3 < r52 then r52 else x3) → (∀ y87 : Int32, y87 = x4 + (1 : Int32) → wX1_span_15 x sh a1 a2 Q X f V45 R30 y86 y87))))) ∧ (x3 = (-1 : Int32) → (∀ y87 : Int32, y87 = x4 + (1 : Int32) → wX1_span_15 x sh a1 a2 Q X f V45 R30 r52 y87)))))))))))
theorem rX1_span_15 {G : jG} {l : Launch} {d : Nat} {c n : Nat} (htr : l.stackTraces = false) (hdd : 46 ≤ d) {sh : List jH} {x : Nat} (hT : jReg shX1 sh x) {a1 : Int32} {a2 : Int32} {Q : Int32 → (Nat → Nat → Int32) → (Nat → Nat → Option Nat) → Prop} {X : String → (Nat → Nat → Int32) → (Nat → Nat → Option Nat) → Prop} (hb : (∀ E V' R', ¬ X E V' R') ∨ 1 ≤ c ∧ 6 ≤ n) : ∀ (f : Nat) (V : Nat → Nat → Int32) (R : Nat → Nat → Option Nat) (x3 : Int32) (x4 : Int32), wX1_span_15 x sh a1 a2 Q X f V R x3 x4 → J G l MX1_span d c n 15 [(0, .ref x), (1, .int a1), (2, .int a2), (3, .int x3), (4, .int x4)] [] (mk sh V R) (jTr sh Q) (jTx sh X) := by
  intro f
  induction f with
  | zero =>
    intro V R x3 x4 hw
    rw [wX1_span_15] at hw
    exact hw.elim
  | succ f ih =>
    intro V R x3 x4 hw
    rw [wX1_span_15] at hw
    refine J.iload 4 dX1_span_15 rfl ?_
    refine J.bipush (v := (6 : Int32)) dX1_span_17 (by decide) ?_
    refine J.icmp_gt 93 dX1_span_19 (by decide) ⟨fun c19 => ?_, fun c19 => ?_⟩
    · obtain ⟨hw, -⟩ := hw
      specialize hw c19
      refine J.iload_n 3 dX1_span_93 rfl ?_
      exact J.iret rfl dX1_span_94 ⟨_, _, rfl, _, rfl, hw⟩
    · obtain ⟨-, hw⟩ := hw
      specialize hw c19
      refine J.aload_n 0 dX1_span_22 rfl ?_
      refine fgX1_71 rfl hT dX1_span_23 ?_
      refine J.aload_n 0 dX1_span_26 rfl ?_
      refine fgX1_10 rfl hT dX1_span_27 ?_
      refine uX1_259 rfl htr (hT.sub 160 36 rfl) (hT.sub 1 36 rfl) dX1_span_30 (by omega) (Nat.le_of_ble_eq_true rfl) hw ?_
      clear hw
      intro V30 R30 hw
      refine J.pop dX1_span_33 rfl ?_
      refine J.aload_n 0 dX1_span_34 rfl ?_
      refine fgX1_71 rfl hT dX1_span_35 ?_
      refine J.iload 4 dX1_span_38 rfl ?_
      refine fpX1_672 rfl (hT.sub 160 36 rfl) dX1_span_40 ?_
      refine J.aload_n 0 dX1_span_43 rfl ?_
      refine J.iload_n 1 dX1_span_44 rfl ?_
      refine uX1_669 rfl htr hT dX1_span_45 (by omega) (Nat.le_of_ble_eq_true rfl) hw ?_
      clear hw
      intro V45 hw
      refine J.aload_n 0 dX1_span_48 rfl ?_
      refine fgX1_71 rfl hT dX1_span_49 ?_
      refine uX1_501 rfl htr (hT.sub 160 36 rfl) dX1_span_52 (by omega) (Nat.le_of_ble_eq_true rfl) hw ?_
      clear hw
      intro r52 hw
      refine J.istore (lv' := [(5, .int r52), (0, .ref x), (1, .int a1), (2, .int a2), (3, .int x3), (4, .int x4)]) dX1_span_55 (by decide) rfl ?_
      refine J.iload_n 4 dX1_span_57 rfl ?_
      refine J.iconst (v := (-1 : Int32)) dX1_span_58 (by decide) ?_
      refine J.icmp_ne 67 dX1_span_59 (by decide) ⟨fun c59 => ?_, fun c59 => ?_⟩
      · obtain ⟨hw, -⟩ := hw
        specialize hw c59
        refine J.iload_n 3 dX1_span_67 rfl ?_
        refine J.if_eq 80 dX1_span_68 (by decide) ⟨fun c68 => ?_, fun c68 => ?_⟩
        · obtain ⟨hw, -⟩ := hw
          specialize hw c68
          refine J.iload_n 4 dX1_span_80 rfl ?_
          refine J.iload 0 dX1_span_81 rfl ?_
          refine J.mmin dX1_span_83 q1858 q911 q159 q912 (Nat.le_of_ble_eq_true rfl) (by omega) ?_
          refine J.nm hw ?_
          clear hw
          intro y86 hw
          refine J.istore_n (lv' := [(3, .int y86), (5, .int r52), (0, .ref x), (1, .int a1), (2, .int a2), (4, .int x4)]) dX1_span_86 (by decide) rfl ?_
          refine J.iincN 5 (K := (1 : Int32)) (lv' := fun y87 => [(4, .int y87), (3, .int y86), (5, .int r52), (0, .ref x), (1, .int a1), (2, .int a2)]) dX1_span_87 rfl (by decide) (by decide) (fun _ => rfl) hw ?_
          clear hw
          intro y87 hw
          refine J.goto 15 dX1_span_90 (by decide) ?_
          exact J.pick [3, 4, 5, 1, 0] rfl (ih _ _ _ _ hw)
        · obtain ⟨-, hw⟩ := hw
          specialize hw c68
          refine J.iload_n 4 dX1_span_71 rfl ?_
          refine J.iload 0 dX1_span_72 rfl ?_
          refine J.mmax dX1_span_74 q1942 q629 q159 q630 (Nat.le_of_ble_eq_true rfl) (by omega) ?_
          refine J.goto 86 dX1_span_77 (by decide) ?_
          refine J.nm hw ?_
          clear hw
          intro y86 hw
          refine J.istore_n (lv' := [(3, .int y86), (5, .int r52), (0, .ref x), (1, .int a1), (2, .int a2), (4, .int x4)]) dX1_span_86 (by decide) rfl ?_
          refine J.iincN 5 (K := (1 : Int32)) (lv' := fun y87 => [(4, .int y87), (3, .int y86), (5, .int r52), (0, .ref x), (1, .int a1), (2, .int a2)]) dX1_span_87 rfl (by decide) (by decide) (fun _ => rfl) hw ?_
          clear hw
          intro y87 hw
          refine J.goto 15 dX1_span_90 (by decide) ?_
          exact J.pick [3, 4, 5, 1, 0] rfl (ih _ _ _ _ hw)
      · obtain ⟨-, hw⟩ := hw
        specialize hw c59
        refine J.iload 0 dX1_span_62 rfl ?_
        refine J.goto 86 dX1_span_64 (by decide) ?_
        refine J.istore_n (lv' := [(3, .int r52), (5, .int r52), (0, .ref x), (1, .int a1), (2, .int a2), (4, .int x4)]) dX1_span_86 (by decide) rfl ?_
        refine J.iincN 5 (K := (1 : Int32)) (lv' := fun y87 => [(4, .int y87), (3, .int r52), (5, .int r52), (0, .ref x), (1, .int a1), (2, .int a2)]) dX1_span_87 rfl (by decide) (by decide) (fun _ => rfl) hw ?_
        clear hw
        intro y87 hw
        refine J.goto 15 dX1_span_90 (by decide) ?_
        exact J.pick [3, 4, 5, 1, 0] rfl (ih _ _ _ _ hw)
def wX1_span (x : Nat) (sh : List jH) (V : Nat → Nat → Int32) (R : Nat → Nat → Option Nat) (a1 : Int32) (a2 : Int32) (Q : Int32 → (Nat → Nat → Int32) → (Nat → Nat → Option Nat) → Prop) (X : String → (Nat → Nat → Int32) → (Nat → Nat → Option Nat) → Prop) : Prop :=
  (wX1_in a1 (0 : Int32) (60 : Int32) (fun r4 => ((wX1_demand r4 ((∃ f9, wX1_span_15 x sh a1 a2 Q X f9 V R (-1 : Int32) (1 : Int32))) (fun _ => False)) ∨ (wX1_demand r4 False (fun E9 => X E9 V R)))))
theorem mX1_span {G : jG} {l : Launch} {d : Nat} {c n : Nat} (htr : l.stackTraces = false) (hdd : 46 ≤ d) {sh : List jH} {V : Nat → Nat → Int32} {R : Nat → Nat → Option Nat} {x : Nat} (hT : jReg shX1 sh x) {a1 : Int32} {a2 : Int32} {Q : Int32 → (Nat → Nat → Int32) → (Nat → Nat → Option Nat) → Prop} {X : String → (Nat → Nat → Int32) → (Nat → Nat → Option Nat) → Prop} (hw : wX1_span x sh V R a1 a2 Q X) (hb : (∀ E V' R', ¬ X E V' R') ∨ 1 ≤ c ∧ 6 ≤ n) : JM G l MX1_span d c n [.ref x, .int a1, .int a2] (mk sh V R) (jTr sh Q) (jTx sh X) := by
  refine JM.intro (by decide) rfl htr (Nat.le_of_ble_eq_true rfl) ?_
  show J G l MX1_span d c n 0 [(0, .ref x), (1, .int a1), (2, .int a2)] [] (mk sh V R) _ _
  unfold wX1_span at hw
  refine J.iload_n 1 dX1_span_0 rfl ?_
  refine J.iconst (v := (0 : Int32)) dX1_span_1 (by decide) ?_
  refine J.bipush (v := (60 : Int32)) dX1_span_2 (by decide) ?_
  refine uX1_124 rfl htr dX1_span_4 (by omega) (Nat.le_of_ble_eq_true rfl) hw ?_
  clear hw
  intro r4 hw
  rcases hw with hw | hw
  rotate_left
  · refine uxX1_498 rfl htr dX1_span_7 (by omega) (Nat.le_of_ble_eq_true rfl) hw (hb.imp (fun h9 _ h8 => h9 _ _ _ h8) id) ?_
    exact fun E9 h9 => JX.out (by rfl) ⟨_, _, rfl, h9⟩
  refine uX1_498 rfl htr dX1_span_7 (by omega) (Nat.le_of_ble_eq_true rfl) hw ?_
  clear hw
  intro hw
  refine J.iconst (v := (-1 : Int32)) dX1_span_10 (by decide) ?_
  refine J.istore_n (lv' := [(3, .int (-1 : Int32)), (0, .ref x), (1, .int a1), (2, .int a2)]) dX1_span_11 (by decide) rfl ?_
  refine J.iconst (v := (1 : Int32)) dX1_span_12 (by decide) ?_
  refine J.istore (lv' := [(4, .int (1 : Int32)), (3, .int (-1 : Int32)), (0, .ref x), (1, .int a1), (2, .int a2)]) dX1_span_13 (by decide) rfl ?_
  obtain ⟨f9, hw⟩ := hw
  exact J.pick [2, 3, 4, 1, 0] rfl (rX1_span_15 htr hdd hT hb f9 _ _ _ _ hw)
