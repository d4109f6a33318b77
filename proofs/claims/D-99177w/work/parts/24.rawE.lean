/-! ===== clone of a table of constants; constructors, Fact.of, Kind.of raw ===== -/
theorem J.cloneV {G : jG} {l : Launch} {M : jM} {d c n pc : Nat} {lv : List (Nat × Value)} {st : List Value} {g : List jC} {post : Option Value → List jC → Prop} {xp : String → List jC → Prop} {index k t N : Nat} {f : Nat → Option Nat} {C ad9 : String} (hd : decode M.2.1 pc = .ok (.invokevirtual index, 3)) (hJ : ∀ {ad : Nat → Nat} {A : Nat → Prop} {U : State} {H : Heap}, jE G ad A U H → jVal G k t N f ad A H) (hkn : k < jn) (ht : (jtys G.2.2)[t]? = some (G.2.2 t, .object C)) (hnm : "[" ++ (FieldType.object C).toString = ad9)
    (hf : ∀ j, j < N → f j = some (if t = 6 then 52 + j else 59 + j)) (hfj : ∀ j a, f j = some a → a < jn)
    (hlink : Cond.methodLink M.1.cls index ⟨ad9, "clone", "()Ljava/lang/Object;"⟩ ∈ lw_all) (hsame : Cond.sameMethod ad9 "java/lang/Object" "clone" "()Ljava/lang/Object;" ∈ lw_all) (hnat : Cond.native ⟨"java/lang/Object", "clone", "()Ljava/lang/Object;"⟩ ∈ lw_all) (hinst : Cond.instanceMethod ⟨"java/lang/Object", "clone", "()Ljava/lang/Object;"⟩ ∈ lw_all) (hsel : Cond.selects ad9 ⟨ad9, "clone", "()Ljava/lang/Object;"⟩ ⟨"java/lang/Object", "clone", "()Ljava/lang/Object;"⟩ ∈ lw_all) (hcl9 : Cond.castable ad9 "java/lang/Cloneable" ∈ jnw)
    (hdd : 1 ≤ d) (hw8 : (st.map fun v => v.category).sum ≤ 8)
    (kk : J G l M d c n (pc + 3) lv (.ref g.length :: st) (g ++ [.inl (t, N, .inr (.inr (.inr (.inr f))))]) post xp) : J G l M d (c + 1) (n + N) pc lv (.ref k :: st) g post xp := by
  intro p e R s m args below meth cd A free Qc XC ad0 n0 ad H locs cells slots ls B T hst hlv hl hc
  obtain ⟨⟨hx, hb, hml, hown, hts, hr9⟩, ⟨hlocks, htr, hnm9, hexc⟩, ⟨hA, hfree, hE, hjn, hfr, hlo⟩, hQ, hX⟩ := id B
  obtain ⟨hn0, hex, hS, hV⟩ := id T
  obtain ⟨hK, hC, hZ, hL, hN, hF, -⟩ := id hE
  obtain ⟨hS1, hSw, hP, hD⟩ := id hS
  obtain ⟨cell, u1, u2, u3, u4, u5, u6⟩ := hJ hE
  have hadk : ad k = ad0 k := hex k (by omega)
  have hcellH : H[ad k]? = some cell := by
    rw [hadk, hV.2.1 _ (Array.getElem?_eq_some_iff.mp u1).1 u6]
    exact u1
  obtain ⟨kA, comp, f1, f2, -, f4⟩ := (hK.2 t _ ht).2
  obtain ⟨c0, t0', e1, e2, e3⟩ := Cond.castable_spec (va_Nw.use (A := args) rfl (hN _ hcl9))
  rw [hnm] at f4
  cases f4.symm.trans e1
  obtain ⟨-, kS, hkS, compS, hkindS⟩ := (hK.2 t _ ht).1 0 (fun _ => .null)
  have e7 : (fun j => va_rf ((f j).map ad0)) = (fun j => va_rf ((f j).map ad)) := by
    funext j
    cases hfj9 : f j with
    | none => rfl
    | some a => exact congrArg (fun z => va_rf (some z)) (hex a (by have := hfj j a hfj9; omega)).symm
  have hpc : ({ cls := cell.cls, slots := cell.slots } : Cell) = vp_cell (G.2.2 t) (N, .inr (.inr (.inr (.inr (fun j => (f j).map ad))))) := by
    rw [u4, u5, vp_cell_q, e7]
    rfl
  have hsz : cell.slots.size = N := by rw [u5, arrV_size]
  have h8 := jcat_sum (ad := ad) hw8
  intro T9 hT X
  have hcellT : T9.heap[ad k]? = some cell := by rw [hT]; exact hcellH
  obtain ⟨-, kT, hkT, compT, hkindT⟩ := State.isArrayOf_alike X.warmed.alike ((hK.2 t _ ht).1 0 (fun _ => .null))
  obtain ⟨vm', X', st9⟩ := X.cloneArray hx hown (hts _ hlink) (hts _ hsame) (hts _ hnat) (hts _ hinst) (hts _ hsel) (a := ad k) (cell := cell) hcellT u2 u3 (by rw [u4]; exact e1) e2 (by rw [u4]; exact e3)
    (fun i v hv => by
      have hlt : i < N := by rw [← hsz]; exact (Array.getElem?_eq_some_iff.mp hv).1
      rw [u5, arrV_read _ _ hlt, hf i hlt] at hv
      cases hv
      rw [u4]
      have hk' : T9.vm.classes[G.2.2 t]? = some kT := hkT
      simp [State.fitsSlot, State.slotType?, hk', hkindT, va_rf, fits])
    (g := F0 m pc ls (.ref (ad k) :: st.map (jv ad))) rfl (by show ls.size = cd.maxLocals; rw [hml]; exact hl.1) rfl (by rw [hb]; exact hd) (by omega) (by show 2 * 0 + _ + 14 ≤ _; omega) (by omega) (by rw [hsz]; omega) (hloader := by rw [u4]; exact Vm.clonesLoader_of_array hkS hkindS)
  rw [hpc, hsz] at X'
  generalize hH1 : H.push (vp_cell (G.2.2 t) (N, .inr (.inr (.inr (.inr (fun j => (f j).map ad)))))) = H1
  have z1 : H1.size = H.size + 1 := by rw [← hH1, Array.size_push]
  have y1 : H1[H.size]? = some (vp_cell (G.2.2 t) (N, .inr (.inr (.inr (.inr (fun j => (f j).map ad)))))) := by rw [← hH1, Array.getElem?_push_size]
  have o1 : ∀ q : Nat, q < H.size → H1[q]? = H[q]? := fun q hq => by rw [← hH1, Array.getElem?_push, if_neg (Nat.ne_of_lt hq)]
  have hk9 : ∀ (k : Nat) (y : Nat × va_E), (jw G ad g)[k]? = some y → H1[y.1]? = H[y.1]? := fun k y hy => o1 y.1 ((hP k y hy).lt)
  have hje : je G (jad ad g.length H.size) (.inl (t, N, .inr (.inr (.inr (.inr f))))) = .inl (G.2.2 t, (N, .inr (.inr (.inr (.inr (fun j => (f j).map ad)))))) := by
    show (Sum.inl (G.2.2 t, (N, Sum.inr (Sum.inr (Sum.inr (Sum.inr (fun j => (f j).map (jad ad g.length H.size))))))) : va_E) = _
    have : (fun j => (f j).map (jad ad g.length H.size)) = (fun j => (f j).map ad) := by
      funext j
      cases hfj9 : f j with
      | none => rfl
      | some a => exact congrArg some (jad_ex ad g.length H.size a (by have := hfj j a hfj9; have := hS.len; omega))
    rw [this]
  have hS2 : jS G (jad ad g.length H.size) (g ++ [.inl (t, N, .inr (.inr (.inr (.inr f))))]) A H1 := by
    refine hS.push (q := H.size) (jad_ex _ _ _) (jad_at _ _ _) (fun j a e9 => by have := hfj j a e9; have := hS.len; omega) ?_ ?_
    · rw [hje]
      exact (hP.kept hk9).app (fun k y hy => by
        have hz : k < 1 := (List.getElem?_eq_some_iff.mp hy).1
        rw [show k = 0 by omega] at hy
        cases hy
        exact y1)
    · rw [hje]
      exact hD.push hP rfl (hA _ hV.1)
  have hV1 : va_S A s.heap H1 locs := ⟨Nat.le_trans hV.1 (by omega), fun y h1 h2 => (o1 y (Nat.lt_of_lt_of_le h1 hV.1)).trans (hV.2.1 y h1 h2), hV.2.2⟩
  have el : (g ++ [(.inl (t, N, .inr (.inr (.inr (.inr f)))) : jC)]).length = g.length + 1 := by rw [List.length_append]; rfl
  have e1 : st.map (jv ad) = st.map (jv (jad ad g.length H.size)) := (jvs_ext (jad_ex _ _ _) (jt hst)).symm
  have e2 := jlv_ext (jad_ex ad g.length H.size) hlv
  have K9 := (kk p e R s m args below meth cd A free Qc XC ad0 n0 (jad ad g.length H.size) H1 locs (cells + 1) (slots + N) ls B ⟨by rw [el]; omega, hex.trans (jad_ex _ _ _) hn0, hS2, hV1⟩ (by rw [el]; exact jp (Nat.lt_succ_self _) (fun x hx9 => jwv_mono (Nat.le_succ _) (jt hst x hx9))) (by rw [el]; exact fun q9 hq9 => jwv_mono (Nat.le_succ _) (hlv q9 hq9)) (by rw [e2]; exact hl) ⟨by omega, by omega⟩)
  rw [List.map_cons, show jv (jad ad g.length H.size) (.ref g.length) = .ref H.size from congrArg Value.ref (jad_at _ _ _), ← e1] at K9
  obtain ⟨t9, b1, b2⟩ := K9 ((T9.setVm vm').pushCell (vp_cell (G.2.2 t) (N, .inr (.inr (.inr (.inr (fun j => (f j).map ad))))))) (by rw [← hH1, ← hT]; rfl) X'
  refine ⟨t9, st9 t9 ?_, b2⟩
  rw [hpc, hT]
  exact b1

-- VisitingHours$Fact.values()[LVisitingHours$Fact;
abbrev MX16_values : jM := (yX16_values, cX16_values, 0, some (.array (.object "VisitingHours$Fact")), [])
def wX16_values (g : List jC) (c : Nat) (n : Nat) (Q : Option Nat → List jC → Prop) : Prop :=
  (∃ c3 n3, c = c3 + 1 ∧ n = n3 + 7 ∧ (∀ q3, q3 = g.length → (∀ g3 : List jC, g3 = g ++ [.inl (6, 7, .inr (.inr (.inr (.inr (fun j => if j < 7 then some (52 + j) else none)))))] → (∃ N6 x6, g3[q3]? = some (.inl (6, N6, x6)) ∧ jn ≤ q3 ∧ Q (some q3) g3))))
theorem mX16_values {G : jG} {l : Launch} {d : Nat} (htr : l.stackTraces = false) (hdd : 1 ≤ d) {g : List jC} {c : Nat} {n : Nat} {Q : Option Nat → List jC → Prop} (hw : wX16_values g c n Q) : JM G l MX16_values d c n [] g (jWa Q) jNo := by
  refine JM.intro (by decide) rfl htr (Nat.le_of_ble_eq_true rfl) ?_
  show J G l MX16_values d c n 0 [] [] g _ _
  unfold wX16_values at hw
  refine J.gets (q := ("VisitingHours$Fact", "$VALUES", "[LVisitingHours$Fact;", .ref 62)) dX16_values_0 (List.mem_of_getElem? (i := 3) rfl) q1535 (by show _ < jn; decide) ?_
  obtain ⟨c3, n3, rfl, rfl, hw⟩ := hw
  refine J.cloneV (t := 6) (N := 7) (f := (fun j => if j < 7 then some (52 + j) else none)) (C := "VisitingHours$Fact") (ad9 := "[LVisitingHours$Fact;") dX16_values_3 (fun h => h.2.2.2.2.2.2.2.2.2.2.2.2.1) (by decide) rfl (by decide) (fun j hj => if_pos hj) (fun j a e => by (try dsimp only at e); split at e <;> cases e; (show _ < 70; omega)) q1537 q1538 q905 q906 q1539 nw1540 (by omega) (Nat.le_of_ble_eq_true rfl) ?_
  refine J.nmr hw ?_
  clear hw
  intro q3 hw
  refine J.nmg hw ?_
  clear hw
  intro g3 hw
  obtain ⟨N6, x6, hk6, hn6, hw⟩ := hw
  refine J.castA (C := "VisitingHours$Fact") dX16_values_6 hn6 hk6 rfl (by decide) q1542 ?_
  exact J.aret rfl (Or.inr ⟨_, rfl⟩) (va_rf_nr (some q3)) dX16_values_9 ⟨_, rfl, hw⟩
theorem krX16_48 {G : jG} {l : Launch} {M : jM} {d c n pc : Nat} {lv : List (Nat × Value)} {rest : List Value} {g : List jC} {post : Option Value → List jC → Prop} {xp : String → List jC → Prop} (hM : M.1.cls = RX16) (htr : l.stackTraces = false) {c1 n1 cq nq : Nat} {Q : Option Nat → List jC → Prop} (hd : decode M.2.1 pc = .ok (.invokestatic 48, 3)) (hdd : 1 + 1 ≤ d) (hw8 : (rest.map fun v => v.category).sum ≤ 8) (hw : wX16_values g c1 n1 Q) (hcc : c1 + c ≤ cq ∧ n1 + n ≤ nq) (kk : ∀ r g', Q r g' → J G l M d c n (pc + 3) lv (va_rf r :: rest) g' post xp) : J G l M d cq nq pc lv (rest) g post xp :=
  J.callS (As := []) (hcw := by rw [hM]; exact lw_S q1532 q1533 q180 q1534) (mX16_values htr (Nat.le_refl _) hw) hd rfl ⟨by decide, by decide, by show _ = some 0; decide +kernel⟩ hw8 ⟨hdd, by decide⟩ hcc (fun r9 g9 h9 => by obtain ⟨r, rfl, h⟩ := h9; exact kk r g9 h) jNo.x
theorem krX16_52 {G : jG} {l : Launch} {M : jM} {d c n pc : Nat} {lv : List (Nat × Value)} {rest : List Value} {g : List jC} {post : Option Value → List jC → Prop} {xp : String → List jC → Prop} (hM : M.1.cls = RX16) (htr : l.stackTraces = false) {h : Nat} {a1 : Nat} {fs9 : List Value} (hk9 : g[h]? = some (.inr (17, fs9))) {Q : Int32 → Prop} (hd : decode M.2.1 pc = .ok (.invokevirtual 52, 3)) (hdd : 1 + 1 ≤ d) (hw8 : (rest.map fun v => v.category).sum ≤ 8) (hw : wJ5_equals g h a1 Q) (kk : ∀ r, Q r → J G l M d c n (pc + 3) lv (.int r :: rest) g post xp) : J G l M d c n pc lv (.ref a1 :: .ref h :: rest) g post xp :=
  J.callV (As := [.ref a1]) (hcw := by rw [hM]; exact lw_V q1543 q1264 q1265 q156 q1266) (mJ5_equals htr (Nat.le_refl _) hw) hd rfl ⟨17, _, _, hk9, rfl, rfl, fun _ => rfl⟩ ⟨rfl, by decide, by decide, by show _ = some 1; decide +kernel⟩ hw8 ⟨hdd, by decide⟩ jcc0 (fun r9 g9 h9 => by obtain ⟨rfl, r, rfl, h⟩ := h9; exact kk r h) jNo.x
-- VisitingHours$Fact.of(Ljava/lang/String;)LVisitingHours$Fact;
abbrev MX16_of : jM := (yX16_of, cX16_of, 5, some (.object "VisitingHours$Fact"), [])
def wX16_of_9 (a1 : Nat) (Q : Option Nat → List jC → Prop) : Nat → List jC → Nat → Nat → Option Nat → Int32 → Int32 → Prop
  | 0, _, _, _, _, _, _ => False
  | f + 1, g, c, n, x1, x2, x3 =>
    ((x2 ≤ x3 → Q none g) ∧ (¬ x2 ≤ x3 → (∃ b16_2, x1 = some b16_2 ∧ (∃ (N16 : Nat) (f16 : Nat → Option Nat), g[b16_2]? = some (.inl (6, N16, .inr (.inr (.inr (.inr f16))))) ∧ jn ≤ b16_2 ∧ vp_in x3 N16 ∧ (∀ o16 : Option Nat, o16 = f16 x3.toNatClampNeg → (∃ b21_3, o16 = some b21_3 ∧ (∃ fs21 : List Value, jcon[b21_3]? = some (.inr (18, fs21)) ∧ b21_3 < jn ∧ ∃ v21 : Option Nat, fs21[1]? = some (va_rf v21) ∧ (∃ b25_4, v21 = some b25_4 ∧ (∃ fs25 : List Value, g[b25_4]? = some (.inr (17, fs25)) ∧ wJ5_equals g b25_4 a1 (fun r25 => ((r25 = 0 → (∀ y34 : Int32, y34 = x3 + (1 : Int32) → wX16_of_9 a1 Q f g c n (some b16_2) x2 y34)) ∧ (¬ r25 = 0 → Q (some b21_3) g))))))))))))
theorem rX16_of_9 {G : jG} {l : Launch} {d : Nat} (htr : l.stackTraces = false) (hdd : 2 ≤ d) {a1 : Nat} {Q : Option Nat → List jC → Prop} : ∀ (f : Nat) (g : List jC) (c : Nat) (n : Nat) (x1 : Option Nat) (x2 : Int32) (x3 : Int32), wX16_of_9 a1 Q f g c n x1 x2 x3 → J G l MX16_of d c n 9 [(0, .ref a1), (1, va_rf x1), (2, .int x2), (3, .int x3)] [] g (jWa Q) jNo := by
  intro f
  induction f with
  | zero =>
    intro g c n x1 x2 x3 hw
    rw [wX16_of_9] at hw
    exact hw.elim
  | succ f ih =>
    intro g c n x1 x2 x3 hw
    rw [wX16_of_9] at hw
    refine J.iload_n 3 dX16_of_9 rfl ?_
    refine J.iload_n 2 dX16_of_10 rfl ?_
    refine J.icmp_ge 40 dX16_of_11 (by decide) ⟨fun c11 => ?_, fun c11 => ?_⟩
    · obtain ⟨hw, -⟩ := hw
      specialize hw c11
      refine J.null dX16_of_40 ?_
      exact J.aret rfl (Or.inl ⟨_, rfl⟩) (va_rf_nr none) dX16_of_41 ⟨_, rfl, hw⟩
    · obtain ⟨-, hw⟩ := hw
      specialize hw c11
      refine J.aloadQ_n 1 dX16_of_14 rfl ?_
      refine J.iload_n 3 dX16_of_15 rfl ?_
      obtain ⟨b16_2, rfl, hw⟩ := hw
      obtain ⟨N16, f16, hk16, hn16, hi16, hw⟩ := hw
      refine J.aldq (C := "VisitingHours$Fact") dX16_of_16 hn16 hk16 rfl hi16 ?_
      refine J.nmq hw ?_
      clear hw
      intro o16 hw
      refine J.astoreQ (lv' := [(4, va_rf o16), (0, .ref a1), (1, .ref b16_2), (2, .int x2), (3, .int x3)]) dX16_of_17 (by decide) rfl ?_
      refine J.aloadQ 0 dX16_of_19 rfl ?_
      obtain ⟨b21_3, rfl, hw⟩ := hw
      obtain ⟨fs21, hk21, hn21, v21, hv21, hw⟩ := hw
      refine J.getfC (T0 := jTF) 1 dX16_of_21 hn21 hk21 rfl q2842 hv21 ?_
      refine J.aload_n 1 dX16_of_24 rfl ?_
      obtain ⟨b25_4, rfl, hw⟩ := hw
      obtain ⟨fs25, hk25, hw⟩ := hw
      refine krX16_52 rfl htr hk25 dX16_of_25 (by omega) (Nat.le_of_ble_eq_true rfl) hw ?_
      clear hw
      intro r25 hw
      refine J.if_eq 34 dX16_of_28 (by decide) ⟨fun c28 => ?_, fun c28 => ?_⟩
      · obtain ⟨hw, -⟩ := hw
        specialize hw c28
        refine J.iincN 4 (K := (1 : Int32)) (lv' := fun y34 => [(3, .int y34), (4, .ref b21_3), (0, .ref a1), (1, .ref b16_2), (2, .int x2)]) dX16_of_34 rfl (by decide) (by decide) (fun _ => rfl) hw ?_
        clear hw
        intro y34 hw
        refine J.goto 9 dX16_of_37 (by decide) ?_
        exact J.pick [2, 3, 4, 0] rfl (ih _ _ _ _ _ _ hw)
      · obtain ⟨-, hw⟩ := hw
        specialize hw c28
        refine J.aload 0 dX16_of_31 rfl ?_
        exact J.aret rfl (Or.inl ⟨_, rfl⟩) (va_rf_nr (some b21_3)) dX16_of_33 ⟨_, rfl, hw⟩
def wX16_of (g : List jC) (c : Nat) (n : Nat) (a1 : Nat) (Q : Option Nat → List jC → Prop) : Prop :=
  (∃ c10 n10 c20 n20 : Nat, c10 + c20 ≤ c ∧ n10 + n20 ≤ n ∧ wX16_values g c10 n10 (fun r0 g0 => (∃ b5_1, r0 = some b5_1 ∧ (∃ v5 : Int32, jAl g0 b5_1 v5 ∧ (∃ f9, wX16_of_9 a1 Q f9 g0 c20 n20 (some b5_1) v5 (0 : Int32))))))
theorem mX16_of {G : jG} {l : Launch} {d : Nat} (htr : l.stackTraces = false) (hdd : 2 ≤ d) {g : List jC} {c : Nat} {n : Nat} {a1 : Nat} {Q : Option Nat → List jC → Prop} (hw : wX16_of g c n a1 Q) : JM G l MX16_of d c n [.ref a1] g (jWa Q) jNo := by
  refine JM.intro (by decide) rfl htr (Nat.le_of_ble_eq_true rfl) ?_
  show J G l MX16_of d c n 0 [(0, .ref a1)] [] g _ _
  unfold wX16_of at hw
  obtain ⟨c10, n10, c20, n20, hc0, hd0, hw⟩ := hw
  refine krX16_48 rfl htr dX16_of_0 (by omega) (Nat.le_of_ble_eq_true rfl) hw ⟨hc0, hd0⟩ ?_
  clear hw
  intro r0 g0 hw
  refine J.astoreQ_n (lv' := [(1, va_rf r0), (0, .ref a1)]) dX16_of_3 (by decide) rfl ?_
  refine J.aloadQ_n 0 dX16_of_4 rfl ?_
  obtain ⟨b5_1, rfl, hw⟩ := hw
  obtain ⟨v5, hk5, hw⟩ := hw
  refine J.alenA dX16_of_5 hk5 ?_
  refine J.istore_n (lv' := [(2, .int v5), (1, .ref b5_1), (0, .ref a1)]) dX16_of_6 (by decide) rfl ?_
  refine J.iconst (v := (0 : Int32)) dX16_of_7 (by decide) ?_
  refine J.istore_n (lv' := [(3, .int (0 : Int32)), (2, .int v5), (1, .ref b5_1), (0, .ref a1)]) dX16_of_8 (by decide) rfl ?_
  obtain ⟨f9, hw⟩ := hw
  exact J.pick [3, 2, 1, 0] rfl (rX16_of_9 htr hdd f9 _ _ _ _ _ _ hw)
-- VisitingHours$Kind.values()[LVisitingHours$Kind;
abbrev MX9_values : jM := (yX9_values, cX9_values, 0, some (.array (.object "VisitingHours$Kind")), [])
def wX9_values (g : List jC) (c : Nat) (n : Nat) (Q : Option Nat → List jC → Prop) : Prop :=
  (∃ c3 n3, c = c3 + 1 ∧ n = n3 + 3 ∧ (∀ q3, q3 = g.length → (∀ g3 : List jC, g3 = g ++ [.inl (7, 3, .inr (.inr (.inr (.inr (fun j => if j < 3 then some (59 + j) else none)))))] → (∃ N6 x6, g3[q3]? = some (.inl (7, N6, x6)) ∧ jn ≤ q3 ∧ Q (some q3) g3))))
theorem mX9_values {G : jG} {l : Launch} {d : Nat} (htr : l.stackTraces = false) (hdd : 1 ≤ d) {g : List jC} {c : Nat} {n : Nat} {Q : Option Nat → List jC → Prop} (hw : wX9_values g c n Q) : JM G l MX9_values d c n [] g (jWa Q) jNo := by
  refine JM.intro (by decide) rfl htr (Nat.le_of_ble_eq_true rfl) ?_
  show J G l MX9_values d c n 0 [] [] g _ _
  unfold wX9_values at hw
  refine J.gets (q := ("VisitingHours$Kind", "$VALUES", "[LVisitingHours$Kind;", .ref 63)) dX9_values_0 (List.mem_of_getElem? (i := 2) rfl) q1419 (by show _ < jn; decide) ?_
  obtain ⟨c3, n3, rfl, rfl, hw⟩ := hw
  refine J.cloneV (t := 7) (N := 3) (f := (fun j => if j < 3 then some (59 + j) else none)) (C := "VisitingHours$Kind") (ad9 := "[LVisitingHours$Kind;") dX9_values_3 (fun h => h.2.2.2.2.2.2.2.2.2.2.2.2.2.1) (by decide) rfl (by decide) (fun j hj => if_pos hj) (fun j a e => by (try dsimp only at e); split at e <;> cases e; (show _ < 70; omega)) q1421 q1422 q905 q906 q1423 nw1424 (by omega) (Nat.le_of_ble_eq_true rfl) ?_
  refine J.nmr hw ?_
  clear hw
  intro q3 hw
  refine J.nmg hw ?_
  clear hw
  intro g3 hw
  obtain ⟨N6, x6, hk6, hn6, hw⟩ := hw
  refine J.castA (C := "VisitingHours$Kind") dX9_values_6 hn6 hk6 rfl (by decide) q1426 ?_
  exact J.aret rfl (Or.inr ⟨_, rfl⟩) (va_rf_nr (some q3)) dX9_values_9 ⟨_, rfl, hw⟩
theorem krX9_36 {G : jG} {l : Launch} {M : jM} {d c n pc : Nat} {lv : List (Nat × Value)} {rest : List Value} {g : List jC} {post : Option Value → List jC → Prop} {xp : String → List jC → Prop} (hM : M.1.cls = RX9) (htr : l.stackTraces = false) {c1 n1 cq nq : Nat} {Q : Option Nat → List jC → Prop} (hd : decode M.2.1 pc = .ok (.invokestatic 36, 3)) (hdd : 1 + 1 ≤ d) (hw8 : (rest.map fun v => v.category).sum ≤ 8) (hw : wX9_values g c1 n1 Q) (hcc : c1 + c ≤ cq ∧ n1 + n ≤ nq) (kk : ∀ r g', Q r g' → J G l M d c n (pc + 3) lv (va_rf r :: rest) g' post xp) : J G l M d cq nq pc lv (rest) g post xp :=
  J.callS (As := []) (hcw := by rw [hM]; exact lw_S q1416 q1417 q173 q1418) (mX9_values htr (Nat.le_refl _) hw) hd rfl ⟨by decide, by decide, by show _ = some 0; decide +kernel⟩ hw8 ⟨hdd, by decide⟩ hcc (fun r9 g9 h9 => by obtain ⟨r, rfl, h⟩ := h9; exact kk r g9 h) jNo.x
theorem krX9_40 {G : jG} {l : Launch} {M : jM} {d c n pc : Nat} {lv : List (Nat × Value)} {rest : List Value} {g : List jC} {post : Option Value → List jC → Prop} {xp : String → List jC → Prop} (hM : M.1.cls = RX9) (htr : l.stackTraces = false) {h : Nat} {a1 : Nat} {fs9 : List Value} (hk9 : g[h]? = some (.inr (17, fs9))) {Q : Int32 → Prop} (hd : decode M.2.1 pc = .ok (.invokevirtual 40, 3)) (hdd : 1 + 1 ≤ d) (hw8 : (rest.map fun v => v.category).sum ≤ 8) (hw : wJ5_equals g h a1 Q) (kk : ∀ r, Q r → J G l M d c n (pc + 3) lv (.int r :: rest) g post xp) : J G l M d c n pc lv (.ref a1 :: .ref h :: rest) g post xp :=
  J.callV (As := [.ref a1]) (hcw := by rw [hM]; exact lw_V q1427 q1264 q1265 q156 q1266) (mJ5_equals htr (Nat.le_refl _) hw) hd rfl ⟨17, _, _, hk9, rfl, rfl, fun _ => rfl⟩ ⟨rfl, by decide, by decide, by show _ = some 1; decide +kernel⟩ hw8 ⟨hdd, by decide⟩ jcc0 (fun r9 g9 h9 => by obtain ⟨rfl, r, rfl, h⟩ := h9; exact kk r h) jNo.x
-- VisitingHours$Kind.of(Ljava/lang/String;)LVisitingHours$Kind;
abbrev MX9_of : jM := (yX9_of, cX9_of, 5, some (.object "VisitingHours$Kind"), [])
def wX9_of_9 (a1 : Nat) (Q : Option Nat → List jC → Prop) : Nat → List jC → Nat → Nat → Option Nat → Int32 → Int32 → Prop
  | 0, _, _, _, _, _, _ => False
  | f + 1, g, c, n, x1, x2, x3 =>
    ((x2 ≤ x3 → Q none g) ∧ (¬ x2 ≤ x3 → (∃ b16_2, x1 = some b16_2 ∧ (∃ (N16 : Nat) (f16 : Nat → Option Nat), g[b16_2]? = some (.inl (7, N16, .inr (.inr (.inr (.inr f16))))) ∧ jn ≤ b16_2 ∧ vp_in x3 N16 ∧ (∀ o16 : Option Nat, o16 = f16 x3.toNatClampNeg → (∃ b21_3, o16 = some b21_3 ∧ (∃ fs21 : List Value, jcon[b21_3]? = some (.inr (19, fs21)) ∧ b21_3 < jn ∧ ∃ v21 : Option Nat, fs21[1]? = some (va_rf v21) ∧ (∃ b25_4, v21 = some b25_4 ∧ (∃ fs25 : List Value, g[b25_4]? = some (.inr (17, fs25)) ∧ wJ5_equals g b25_4 a1 (fun r25 => ((r25 = 0 → (∀ y34 : Int32, y34 = x3 + (1 : Int32) → wX9_of_9 a1 Q f g c n (some b16_2) x2 y34)) ∧ (¬ r25 = 0 → Q (some b21_3) g))))))))))))
theorem rX9_of_9 {G : jG} {l : Launch} {d : Nat} (htr : l.stackTraces = false) (hdd : 2 ≤ d) {a1 : Nat} {Q : Option Nat → List jC → Prop} : ∀ (f : Nat) (g : List jC) (c : Nat) (n : Nat) (x1 : Option Nat) (x2 : Int32) (x3 : Int32), wX9_of_9 a1 Q f g c n x1 x2 x3 → J G l MX9_of d c n 9 [(0, .ref a1), (1, va_rf x1), (2, .int x2), (3, .int x3)] [] g (jWa Q) jNo := by
  intro f
  induction f with
  | zero =>
    intro g c n x1 x2 x3 hw
    rw [wX9_of_9] at hw
    exact hw.elim
  | succ f ih =>
    intro g c n x1 x2 x3 hw
    rw [wX9_of_9] at hw
    refine J.iload_n 3 dX9_of_9 rfl ?_
    refine J.iload_n 2 dX9_of_10 rfl ?_
    refine J.icmp_ge 40 dX9_of_11 (by decide) ⟨fun c11 => ?_, fun c11 => ?_⟩
    · obtain ⟨hw, -⟩ := hw
      specialize hw c11
      refine J.null dX9_of_40 ?_
      exact J.aret rfl (Or.inl ⟨_, rfl⟩) (va_rf_nr none) dX9_of_41 ⟨_, rfl, hw⟩
    · obtain ⟨-, hw⟩ := hw
      specialize hw c11
      refine J.aloadQ_n 1 dX9_of_14 rfl ?_
      refine J.iload_n 3 dX9_of_15 rfl ?_
      obtain ⟨b16_2, rfl, hw⟩ := hw
      obtain ⟨N16, f16, hk16, hn16, hi16, hw⟩ := hw
      refine J.aldq (C := "VisitingHours$Kind") dX9_of_16 hn16 hk16 rfl hi16 ?_
      refine J.nmq hw ?_
      clear hw
      intro o16 hw
      refine J.astoreQ (lv' := [(4, va_rf o16), (0, .ref a1), (1, .ref b16_2), (2, .int x2), (3, .int x3)]) dX9_of_17 (by decide) rfl ?_
      refine J.aloadQ 0 dX9_of_19 rfl ?_
      obtain ⟨b21_3, rfl, hw⟩ := hw
      obtain ⟨fs21, hk21, hn21, v21, hv21, hw⟩ := hw
      refine J.getfC (T0 := jTK) 1 dX9_of_21 hn21 hk21 rfl q2841 hv21 ?_
      refine J.aload_n 1 dX9_of_24 rfl ?_
      obtain ⟨b25_4, rfl, hw⟩ := hw
      obtain ⟨fs25, hk25, hw⟩ := hw
      refine krX9_40 rfl htr hk25 dX9_of_25 (by omega) (Nat.le_of_ble_eq_true rfl) hw ?_
      clear hw
      intro r25 hw
      refine J.if_eq 34 dX9_of_28 (by decide) ⟨fun c28 => ?_, fun c28 => ?_⟩
      · obtain ⟨hw, -⟩ := hw
        specialize hw c28
        refine J.iincN 4 (K := (1 : Int32)) (lv' := fun y34 => [(3, .int y34), (4, .ref b21_3), (0, .ref a1), (1, .ref b16_2), (2, .int x2)]) dX9_of_34 rfl (by decide) (by decide) (fun _ => rfl) hw ?_
        clear hw
        intro y34 hw
        refine J.goto 9 dX9_of_37 (by decide) ?_
        exact J.pick [2, 3, 4, 0] rfl (ih _ _ _ _ _ _ hw)
      · obtain ⟨-, hw⟩ := hw
        specialize hw c28
        refine J.aload 0 dX9_of_31 rfl ?_
        exact J.aret rfl (Or.inl ⟨_, rfl⟩) (va_rf_nr (some b21_3)) dX9_of_33 ⟨_, rfl, hw⟩
def wX9_of (g : List jC) (c : Nat) (n : Nat) (a1 : Nat) (Q : Option Nat → List jC → Prop) : Prop :=
  (∃ c10 n10 c20 n20 : Nat, c10 + c20 ≤ c ∧ n10 + n20 ≤ n ∧ wX9_values g c10 n10 (fun r0 g0 => (∃ b5_1, r0 = some b5_1 ∧ (∃ v5 : Int32, jAl g0 b5_1 v5 ∧ (∃ f9, wX9_of_9 a1 Q f9 g0 c20 n20 (some b5_1) v5 (0 : Int32))))))
theorem mX9_of {G : jG} {l : Launch} {d : Nat} (htr : l.stackTraces = false) (hdd : 2 ≤ d) {g : List jC} {c : Nat} {n : Nat} {a1 : Nat} {Q : Option Nat → List jC → Prop} (hw : wX9_of g c n a1 Q) : JM G l MX9_of d c n [.ref a1] g (jWa Q) jNo := by
  refine JM.intro (by decide) rfl htr (Nat.le_of_ble_eq_true rfl) ?_
  show J G l MX9_of d c n 0 [(0, .ref a1)] [] g _ _
  unfold wX9_of at hw
  obtain ⟨c10, n10, c20, n20, hc0, hd0, hw⟩ := hw
  refine krX9_36 rfl htr dX9_of_0 (by omega) (Nat.le_of_ble_eq_true rfl) hw ⟨hc0, hd0⟩ ?_
  clear hw
  intro r0 g0 hw
  refine J.astoreQ_n (lv' := [(1, va_rf r0), (0, .ref a1)]) dX9_of_3 (by decide) rfl ?_
  refine J.aloadQ_n 0 dX9_of_4 rfl ?_
  obtain ⟨b5_1, rfl, hw⟩ := hw
  obtain ⟨v5, hk5, hw⟩ := hw
  refine J.alenA dX9_of_5 hk5 ?_
  refine J.istore_n (lv' := [(2, .int v5), (1, .ref b5_1), (0, .ref a1)]) dX9_of_6 (by decide) rfl ?_
  refine J.iconst (v := (0 : Int32)) dX9_of_7 (by decide) ?_
  refine J.istore_n (lv' := [(3, .int (0 : Int32)), (2, .int v5), (1, .ref b5_1), (0, .ref a1)]) dX9_of_8 (by decide) rfl ?_
  obtain ⟨f9, hw⟩ := hw
  exact J.pick [3, 2, 1, 0] rfl (rX9_of_9 htr hdd f9 _ _ _ _ _ _ hw)
-- java/lang/Throwable.<init>(Ljava/lang/String;Ljava/lang/Throwable;ZZ)V
abbrev MJ12_init_3 : jM := (yJ12_init_3, cJ12_init_3, 5, none, [])
def wJ12_init_3_41 (h : Nat) (a1 : Option Nat) (a2 : Option Nat) (a3 : Int32) (a4 : Int32) (Q : List jC → Prop) (g : List jC) : Prop :=
  (∃ fs43 : List Value, g[h]? = some (.inr (6, fs43)) ∧ jn ≤ h ∧ 3 < fs43.length ∧ (∀ g43 : List jC, g43 = g.set h (.inr (6, fs43.set 3 (va_rf a1))) → (∃ fs48 : List Value, g43[h]? = some (.inr (6, fs48)) ∧ jn ≤ h ∧ 0 < fs48.length ∧ (∀ g48 : List jC, g48 = g43.set h (.inr (6, fs48.set 0 (va_rf a2))) → ((¬ a3 = 0 → Q g48) ∧ (a3 = 0 → (∃ fs57 : List Value, g48[h]? = some (.inr (6, fs57)) ∧ jn ≤ h ∧ 2 < fs57.length ∧ (∀ g57 : List jC, g57 = g48.set h (.inr (6, fs57.set 2 (.null))) → Q g57))))))))
theorem rJ12_init_3_41 {G : jG} {l : Launch} {d : Nat} {c n : Nat} (htr : l.stackTraces = false) (hdd : 1 ≤ d) {h : Nat} {a1 : Option Nat} {a2 : Option Nat} {a3 : Int32} {a4 : Int32} {Q : List jC → Prop} {g : List jC} (hw : wJ12_init_3_41 h a1 a2 a3 a4 Q g) : J G l MJ12_init_3 d c n 41 [(0, .ref h), (1, va_rf a1), (2, va_rf a2), (3, .int a3)] [] g (jWn Q) jNo := by
  unfold wJ12_init_3_41 at hw
  refine J.aload_n 0 dJ12_init_3_41 rfl ?_
  refine J.aloadQ_n 1 dJ12_init_3_42 rfl ?_
  obtain ⟨fs43, hk43, hn43, hl43, hw⟩ := hw
  refine J.putf (C := RX7) (T0 := TX7) (N := 6) 3 dJ12_init_3_43 hn43 hk43 rfl in_X7 tyX7 tyX7_ok nmX7 (by decide) q1135 rfl rfl (jq_put _ (Or.inl ⟨_, rfl⟩)) hl43 ?_
  refine J.nmg hw ?_
  clear hw
  intro g43 hw
  refine J.aload_n 0 dJ12_init_3_46 rfl ?_
  refine J.aloadQ_n 2 dJ12_init_3_47 rfl ?_
  obtain ⟨fs48, hk48, hn48, hl48, hw⟩ := hw
  refine J.putf (C := RX7) (T0 := TX7) (N := 6) 0 dJ12_init_3_48 hn48 hk48 rfl in_X7 tyX7 tyX7_ok nmX7 (by decide) q1136 rfl rfl (jq_put _ (Or.inl ⟨_, rfl⟩)) hl48 ?_
  refine J.nmg hw ?_
  clear hw
  intro g48 hw
  refine J.iload_n 3 dJ12_init_3_51 rfl ?_
  refine J.if_ne 60 dJ12_init_3_52 (by decide) ⟨fun c52 => ?_, fun c52 => ?_⟩
  · obtain ⟨hw, -⟩ := hw
    specialize hw c52
    exact J.vret rfl dJ12_init_3_60 ⟨rfl, hw⟩
  · obtain ⟨-, hw⟩ := hw
    specialize hw c52
    refine J.aload_n 0 dJ12_init_3_55 rfl ?_
    refine J.null dJ12_init_3_56 ?_
    obtain ⟨fs57, hk57, hn57, hl57, hw⟩ := hw
    refine J.putf (C := RX7) (T0 := TX7) (N := 6) 2 dJ12_init_3_57 hn57 hk57 rfl in_X7 tyX7 tyX7_ok nmX7 (by decide) q1138 rfl rfl (fun _ => ⟨rfl, rfl⟩) hl57 ?_
    refine J.nmg hw ?_
    clear hw
    intro g57 hw
    exact J.vret rfl dJ12_init_3_60 ⟨rfl, hw⟩
def wJ12_init_3 (g : List jC) (h : Nat) (a1 : Option Nat) (a2 : Option Nat) (a3 : Int32) (a4 : Int32) (Q : List jC → Prop) : Prop :=
  (∃ fs6 : List Value, g[h]? = some (.inr (6, fs6)) ∧ jn ≤ h ∧ 0 < fs6.length ∧ (∀ g6 : List jC, g6 = g.set h (.inr (6, fs6.set 0 (.ref h))) → (∀ o10 : Option Nat, o10 = none ∨ o10 = some 65 → (∃ fs13 : List Value, g6[h]? = some (.inr (6, fs13)) ∧ jn ≤ h ∧ 1 < fs13.length ∧ (∀ g13 : List jC, g13 = g6.set h (.inr (6, fs13.set 1 (va_rf o10))) → (∀ o17 : Option Nat, o17 = none ∨ o17 = some 66 → (∃ fs20 : List Value, g13[h]? = some (.inr (6, fs20)) ∧ jn ≤ h ∧ 2 < fs20.length ∧ (∀ g20 : List jC, g20 = g13.set h (.inr (6, fs20.set 2 (va_rf o17))) → ((a4 = 0 → (∃ fs38 : List Value, g20[h]? = some (.inr (6, fs38)) ∧ jn ≤ h ∧ 1 < fs38.length ∧ (∀ g38 : List jC, g38 = g20.set h (.inr (6, fs38.set 1 (.null))) → wJ12_init_3_41 h a1 a2 a3 a4 Q g38))) ∧ (¬ a4 = 0 → False))))))))))
theorem mJ12_init_3 {G : jG} {l : Launch} {d : Nat} (htr : l.stackTraces = false) (hdd : 1 ≤ d) {g : List jC} {h : Nat} {a1 : Option Nat} {a2 : Option Nat} {a3 : Int32} {a4 : Int32} {Q : List jC → Prop} (hw : wJ12_init_3 g h a1 a2 a3 a4 Q) : JM G l MJ12_init_3 d 0 0 [.ref h, va_rf a1, va_rf a2, .int a3, .int a4] g (jWn Q) jNo := by
  refine JM.intro (by decide) rfl htr (by cases a1 <;> cases a2 <;> exact Nat.le_of_ble_eq_true rfl) ?_
  rw [show lv_args 0 [.ref h, va_rf a1, va_rf a2, .int a3, .int a4] = [(0, .ref h), (1, va_rf a1), (2, va_rf a2), (3, .int a3), (4, .int a4)] from by cases a1 <;> cases a2 <;> rfl]
  unfold wJ12_init_3 at hw
  refine J.aload_n 0 dJ12_init_3_0 rfl ?_
  refine J.objInit dJ12_init_3_1 q1026 q193 q194 (by omega) (Nat.le_of_ble_eq_true rfl) ?_
  refine J.aload_n 0 dJ12_init_3_4 rfl ?_
  refine J.aload_n 0 dJ12_init_3_5 rfl ?_
  obtain ⟨fs6, hk6, hn6, hl6, hw⟩ := hw
  refine J.putf (C := RX7) (T0 := TX7) (N := 6) 0 dJ12_init_3_6 hn6 hk6 rfl in_X7 tyX7 tyX7_ok nmX7 (by decide) q1136 rfl rfl (fun _ => ⟨rfl, rfl⟩) hl6 ?_
  refine J.nmg hw ?_
  clear hw
  intro g6 hw
  refine J.aload_n 0 dJ12_init_3_9 rfl ?_
  refine J.getszQ (q := ("java/lang/Throwable", "UNASSIGNED_STACK", "[Ljava/lang/StackTraceElement;", 65)) dJ12_init_3_10 (List.mem_of_getElem? (i := 0) rfl) q1027 (by decide) (fun o10 h10 => ?_)
  specialize hw o10 h10
  obtain ⟨fs13, hk13, hn13, hl13, hw⟩ := hw
  refine J.putf (C := RX7) (T0 := TX7) (N := 6) 1 dJ12_init_3_13 hn13 hk13 rfl in_X7 tyX7 tyX7_ok nmX7 (by decide) q1137 rfl rfl (jq_put _ (Or.inr ⟨_, rfl⟩)) hl13 ?_
  refine J.nmg hw ?_
  clear hw
  intro g13 hw
  refine J.aload_n 0 dJ12_init_3_16 rfl ?_
  refine J.getszQ (q := ("java/lang/Throwable", "SUPPRESSED_SENTINEL", "Ljava/util/List;", 66)) dJ12_init_3_17 (List.mem_of_getElem? (i := 1) rfl) q1029 (by decide) (fun o17 h17 => ?_)
  specialize hw o17 h17
  obtain ⟨fs20, hk20, hn20, hl20, hw⟩ := hw
  refine J.putf (C := RX7) (T0 := TX7) (N := 6) 2 dJ12_init_3_20 hn20 hk20 rfl in_X7 tyX7 tyX7_ok nmX7 (by decide) q1138 rfl rfl (jq_put _ (Or.inl ⟨_, rfl⟩)) hl20 ?_
  refine J.nmg hw ?_
  clear hw
  intro g20 hw
  refine J.iload 4 dJ12_init_3_23 rfl ?_
  refine J.if_eq 36 dJ12_init_3_25 (by decide) ⟨fun c25 => ?_, fun c25 => ?_⟩
  · obtain ⟨hw, -⟩ := hw
    specialize hw c25
    refine J.aload_n 0 dJ12_init_3_36 rfl ?_
    refine J.null dJ12_init_3_37 ?_
    obtain ⟨fs38, hk38, hn38, hl38, hw⟩ := hw
    refine J.putf (C := RX7) (T0 := TX7) (N := 6) 1 dJ12_init_3_38 hn38 hk38 rfl in_X7 tyX7 tyX7_ok nmX7 (by decide) q1137 rfl rfl (fun _ => ⟨rfl, rfl⟩) hl38 ?_
    refine J.nmg hw ?_
    clear hw
    intro g38 hw
    exact J.pick [0, 1, 2, 3] rfl (rJ12_init_3_41 htr hdd hw)
  · obtain ⟨-, hw⟩ := hw
    specialize hw c25
    refine J.aload_n 0 dJ12_init_3_28 rfl ?_
    exact hw.elim
theorem kiJ13_16 {G : jG} {l : Launch} {M : jM} {d c n pc : Nat} {lv : List (Nat × Value)} {rest : List Value} {g : List jC} {post : Option Value → List jC → Prop} {xp : String → List jC → Prop} (hM : M.1.cls = RJ13) (htr : l.stackTraces = false) {h : Nat} {a1 : Option Nat} {a2 : Option Nat} {a3 : Int32} {a4 : Int32} {Q : List jC → Prop} (hd : decode M.2.1 pc = .ok (.invokespecial 16, 3)) (hdd : 1 + 1 ≤ d) (hw8 : (rest.map fun v => v.category).sum ≤ 8) (hw : wJ12_init_3 g h a1 a2 a3 a4 Q) (kk : ∀ g', Q g' → J G l M d c n (pc + 3) lv rest g' post xp) : J G l M d c n pc lv (.int a4 :: .int a3 :: va_rf a2 :: va_rf a1 :: .ref h :: rest) g post xp :=
  J.callI (M' := MJ12_init_3) (As := [va_rf a1, va_rf a2, .int a3, .int a4]) (hcw := lw_meth q1194) (hini := q163) (hlk := by rw [hM]; exact q1192) (hin := q1193) (hret := rfl) (mJ12_init_3 htr (Nat.le_refl _) hw) hd rfl rfl ⟨by decide, by decide, by show _ = some 4; decide +kernel⟩ hw8 ⟨hdd, by decide⟩ jcc0 (fun r9 g9 h9 => by obtain ⟨rfl, h⟩ := h9; exact kk g9 h) jNo.x
-- java/lang/Exception.<init>(Ljava/lang/String;Ljava/lang/Throwable;ZZ)V
abbrev MJ13_init_2 : jM := (yJ13_init_2, cJ13_init_2, 5, none, [])
def wJ13_init_2 (g : List jC) (h : Nat) (a1 : Option Nat) (a2 : Option Nat) (a3 : Int32) (a4 : Int32) (Q : List jC → Prop) : Prop :=
  wJ12_init_3 g h a1 a2 a3 a4 (fun g6 => Q g6)
theorem mJ13_init_2 {G : jG} {l : Launch} {d : Nat} (htr : l.stackTraces = false) (hdd : 2 ≤ d) {g : List jC} {h : Nat} {a1 : Option Nat} {a2 : Option Nat} {a3 : Int32} {a4 : Int32} {Q : List jC → Prop} (hw : wJ13_init_2 g h a1 a2 a3 a4 Q) : JM G l MJ13_init_2 d 0 0 [.ref h, va_rf a1, va_rf a2, .int a3, .int a4] g (jWn Q) jNo := by
  refine JM.intro (by decide) rfl htr (by cases a1 <;> cases a2 <;> exact Nat.le_of_ble_eq_true rfl) ?_
  rw [show lv_args 0 [.ref h, va_rf a1, va_rf a2, .int a3, .int a4] = [(0, .ref h), (1, va_rf a1), (2, va_rf a2), (3, .int a3), (4, .int a4)] from by cases a1 <;> cases a2 <;> rfl]
  unfold wJ13_init_2 at hw
  refine J.aload_n 0 dJ13_init_2_0 rfl ?_
  refine J.aloadQ_n 1 dJ13_init_2_1 rfl ?_
  refine J.aloadQ_n 2 dJ13_init_2_2 rfl ?_
  refine J.iload_n 3 dJ13_init_2_3 rfl ?_
  refine J.iload 4 dJ13_init_2_4 rfl ?_
  refine kiJ13_16 rfl htr dJ13_init_2_6 (by omega) (Nat.le_of_ble_eq_true rfl) hw ?_
  clear hw
  intro g6 hw
  exact J.vret rfl dJ13_init_2_9 ⟨rfl, hw⟩
theorem kiX7_1 {G : jG} {l : Launch} {M : jM} {d c n pc : Nat} {lv : List (Nat × Value)} {rest : List Value} {g : List jC} {post : Option Value → List jC → Prop} {xp : String → List jC → Prop} (hM : M.1.cls = RX7) (htr : l.stackTraces = false) {h : Nat} {a1 : Option Nat} {a2 : Option Nat} {a3 : Int32} {a4 : Int32} {Q : List jC → Prop} (hd : decode M.2.1 pc = .ok (.invokespecial 1, 3)) (hdd : 2 + 1 ≤ d) (hw8 : (rest.map fun v => v.category).sum ≤ 8) (hw : wJ13_init_2 g h a1 a2 a3 a4 Q) (kk : ∀ g', Q g' → J G l M d c n (pc + 3) lv rest g' post xp) : J G l M d c n pc lv (.int a4 :: .int a3 :: va_rf a2 :: va_rf a1 :: .ref h :: rest) g post xp :=
  J.callI (M' := MJ13_init_2) (As := [va_rf a1, va_rf a2, .int a3, .int a4]) (hcw := lw_meth q1191) (hini := q164) (hlk := by rw [hM]; exact q1189) (hin := q1190) (hret := rfl) (mJ13_init_2 htr (Nat.le_refl _) hw) hd rfl rfl ⟨by decide, by decide, by show _ = some 4; decide +kernel⟩ hw8 ⟨hdd, by decide⟩ jcc0 (fun r9 g9 h9 => by obtain ⟨rfl, h⟩ := h9; exact kk g9 h) jNo.x
-- VisitingHours$Wrong.<init>()V
abbrev MX7_init : jM := (yX7_init, cX7_init, 1, none, [])
def wX7_init (g : List jC) (h : Nat) (Q : List jC → Prop) : Prop :=
  wJ13_init_2 g h none none (0 : Int32) (0 : Int32) (fun g5 => Q g5)
theorem mX7_init {G : jG} {l : Launch} {d : Nat} (htr : l.stackTraces = false) (hdd : 3 ≤ d) {g : List jC} {h : Nat} {Q : List jC → Prop} (hw : wX7_init g h Q) : JM G l MX7_init d 0 0 [.ref h] g (jWn Q) jNo := by
  refine JM.intro (by decide) rfl htr (Nat.le_of_ble_eq_true rfl) ?_
  show J G l MX7_init d 0 0 0 [(0, .ref h)] [] g _ _
  unfold wX7_init at hw
  refine J.aload_n 0 dX7_init_0 rfl ?_
  refine J.null dX7_init_1 ?_
  refine J.null dX7_init_2 ?_
  refine J.iconst (v := (0 : Int32)) dX7_init_3 (by decide) ?_
  refine J.iconst (v := (0 : Int32)) dX7_init_4 (by decide) ?_
  refine kiX7_1 rfl htr dX7_init_5 (by omega) (Nat.le_of_ble_eq_true rfl) hw ?_
  clear hw
  intro g5 hw
  exact J.vret rfl dX7_init_8 ⟨rfl, hw⟩
theorem kiX8_9 {G : jG} {l : Launch} {M : jM} {d c n pc : Nat} {lv : List (Nat × Value)} {rest : List Value} {g : List jC} {post : Option Value → List jC → Prop} {xp : String → List jC → Prop} (hM : M.1.cls = RX8) (htr : l.stackTraces = false) {h : Nat} {Q : List jC → Prop} (hd : decode M.2.1 pc = .ok (.invokespecial 9, 3)) (hdd : 3 + 1 ≤ d) (hw8 : (rest.map fun v => v.category).sum ≤ 8) (hw : wJ2_init g h Q) (kk : ∀ g', Q g' → J G l M d c n (pc + 3) lv rest g' post xp) : J G l M d c n pc lv (.ref h :: rest) g post xp :=
  J.callI (M' := MJ2_init) (As := []) (hcw := lw_meth q380) (hini := q150) (hlk := by rw [hM]; exact q1403) (hin := q379) (hret := rfl) (mJ2_init htr (Nat.le_refl _) hw) hd rfl rfl ⟨by decide, by decide, by show _ = some 0; decide +kernel⟩ hw8 ⟨hdd, by decide⟩ jcc0 (fun r9 g9 h9 => by obtain ⟨rfl, h⟩ := h9; exact kk g9 h) jNo.x
-- VisitingHours$Law.<init>()V
abbrev MX8_init : jM := (yX8_init, cX8_init, 1, none, [])
def wX8_init (g : List jC) (c : Nat) (n : Nat) (h : Nat) (Q : List jC → Prop) : Prop :=
  (∃ c5 n5, c = c5 + 1 ∧ n = n5 + 3 ∧ (∀ q5, q5 = g.length → (∀ g5 : List jC, g5 = g ++ [.inr (15, [.int 0, .null, .int 0])] → wJ2_init g5 q5 (fun g9 => (∃ fs12 : List Value, g9[h]? = some (.inr (7, fs12)) ∧ jn ≤ h ∧ 0 < fs12.length ∧ (∀ g12 : List jC, g12 = g9.set h (.inr (7, fs12.set 0 (.ref q5))) → Q g12))))))
theorem mX8_init {G : jG} {l : Launch} {d : Nat} (htr : l.stackTraces = false) (hdd : 4 ≤ d) {g : List jC} {c : Nat} {n : Nat} {h : Nat} {Q : List jC → Prop} (hw : wX8_init g c n h Q) : JM G l MX8_init d c n [.ref h] g (jWn Q) jNo := by
  refine JM.intro (by decide) rfl htr (Nat.le_of_ble_eq_true rfl) ?_
  show J G l MX8_init d c n 0 [(0, .ref h)] [] g _ _
  unfold wX8_init at hw
  refine J.aload_n 0 dX8_init_0 rfl ?_
  refine J.objInit dX8_init_1 q1401 q193 q194 (by omega) (Nat.le_of_ble_eq_true rfl) ?_
  refine J.aload_n 0 dX8_init_4 rfl ?_
  obtain ⟨c5, n5, rfl, rfl, hw⟩ := hw
  refine J.new (C := RJ2) (T0 := TJ2) (N := 3) [.int 0, .null, .int 0] dX8_init_5 (ci := 15) rfl in_J2 tyJ2 tyJ2_ok q1402 q377 q150 rfl (fun _ => rfl) ?_
  refine J.nmr hw ?_
  clear hw
  intro q5 hw
  refine J.nmg hw ?_
  clear hw
  intro g5 hw
  refine J.dup dX8_init_8 rfl ?_
  refine kiX8_9 rfl htr dX8_init_9 (by omega) (Nat.le_of_ble_eq_true rfl) hw ?_
  clear hw
  intro g9 hw
  obtain ⟨fs12, hk12, hn12, hl12, hw⟩ := hw
  refine J.putfF (C := RX8) (T0 := TX8) (N := 1) 0 dX8_init_12 hn12 hk12 rfl in_X8 tyX8 tyX8_ok nmX8 (by decide) q1404 rfl rfl rfl rfl (fun _ => ⟨rfl, rfl⟩) hl12 ?_
  refine J.nmg hw ?_
  clear hw
  intro g12 hw
  exact J.vret rfl dX8_init_15 ⟨rfl, hw⟩
-- VisitingHours$Line.<init>(LVisitingHours$Kind;ILVisitingHours$Cond;)V
abbrev MX10_init : jM := (yX10_init, cX10_init, 4, none, [])
def wX10_init (g : List jC) (h : Nat) (a1 : Nat) (a2 : Int32) (a3 : Option Nat) (Q : List jC → Prop) : Prop :=
  (∃ fs6 : List Value, g[h]? = some (.inr (8, fs6)) ∧ jn ≤ h ∧ 0 < fs6.length ∧ (∀ g6 : List jC, g6 = g.set h (.inr (8, fs6.set 0 (.ref a1))) → (∃ fs11 : List Value, g6[h]? = some (.inr (8, fs11)) ∧ jn ≤ h ∧ 1 < fs11.length ∧ (∀ g11 : List jC, g11 = g6.set h (.inr (8, fs11.set 1 (.int a2))) → (∃ fs16 : List Value, g11[h]? = some (.inr (8, fs16)) ∧ jn ≤ h ∧ 2 < fs16.length ∧ (∀ g16 : List jC, g16 = g11.set h (.inr (8, fs16.set 2 (va_rf a3))) → Q g16))))))
theorem mX10_init {G : jG} {l : Launch} {d : Nat} (htr : l.stackTraces = false) (hdd : 1 ≤ d) {g : List jC} {h : Nat} {a1 : Nat} {a2 : Int32} {a3 : Option Nat} {Q : List jC → Prop} (hw : wX10_init g h a1 a2 a3 Q) : JM G l MX10_init d 0 0 [.ref h, .ref a1, .int a2, va_rf a3] g (jWn Q) jNo := by
  refine JM.intro (by decide) rfl htr (by cases a3 <;> exact Nat.le_of_ble_eq_true rfl) ?_
  show J G l MX10_init d 0 0 0 [(0, .ref h), (1, .ref a1), (2, .int a2), (3, va_rf a3)] [] g _ _
  unfold wX10_init at hw
  refine J.aload_n 0 dX10_init_0 rfl ?_
  refine J.objInit dX10_init_1 q1621 q193 q194 (by omega) (Nat.le_of_ble_eq_true rfl) ?_
  refine J.aload_n 0 dX10_init_4 rfl ?_
  refine J.aload_n 1 dX10_init_5 rfl ?_
  obtain ⟨fs6, hk6, hn6, hl6, hw⟩ := hw
  refine J.putfF (C := RX10) (T0 := TX10) (N := 3) 0 dX10_init_6 hn6 hk6 rfl in_X10 tyX10 tyX10_ok nmX10 (by decide) q1622 rfl rfl rfl rfl (fun _ => ⟨rfl, rfl⟩) hl6 ?_
  refine J.nmg hw ?_
  clear hw
  intro g6 hw
  refine J.aload_n 0 dX10_init_9 rfl ?_
  refine J.iload_n 2 dX10_init_10 rfl ?_
  obtain ⟨fs11, hk11, hn11, hl11, hw⟩ := hw
  refine J.putfF (C := RX10) (T0 := TX10) (N := 3) 1 dX10_init_11 hn11 hk11 rfl in_X10 tyX10 tyX10_ok nmX10 (by decide) q1624 rfl rfl rfl rfl (fun _ => ⟨rfl, rfl⟩) hl11 ?_
  refine J.nmg hw ?_
  clear hw
  intro g11 hw
  refine J.aload_n 0 dX10_init_14 rfl ?_
  refine J.aloadQ_n 3 dX10_init_15 rfl ?_
  obtain ⟨fs16, hk16, hn16, hl16, hw⟩ := hw
  refine J.putfF (C := RX10) (T0 := TX10) (N := 3) 2 dX10_init_16 hn16 hk16 rfl in_X10 tyX10 tyX10_ok nmX10 (by decide) q1626 rfl rfl rfl rfl (jq_put _ (Or.inl ⟨_, rfl⟩)) hl16 ?_
  refine J.nmg hw ?_
  clear hw
  intro g16 hw
  exact J.vret rfl dX10_init_19 ⟨rfl, hw⟩
theorem kiX11_9 {G : jG} {l : Launch} {M : jM} {d c n pc : Nat} {lv : List (Nat × Value)} {rest : List Value} {g : List jC} {post : Option Value → List jC → Prop} {xp : String → List jC → Prop} (hM : M.1.cls = RX11) (htr : l.stackTraces = false) {h : Nat} {Q : List jC → Prop} (hd : decode M.2.1 pc = .ok (.invokespecial 9, 3)) (hdd : 3 + 1 ≤ d) (hw8 : (rest.map fun v => v.category).sum ≤ 8) (hw : wJ2_init g h Q) (kk : ∀ g', Q g' → J G l M d c n (pc + 3) lv rest g' post xp) : J G l M d c n pc lv (.ref h :: rest) g post xp :=
  J.callI (M' := MJ2_init) (As := []) (hcw := lw_meth q380) (hini := q150) (hlk := by rw [hM]; exact q1443) (hin := q379) (hret := rfl) (mJ2_init htr (Nat.le_refl _) hw) hd rfl rfl ⟨by decide, by decide, by show _ = some 0; decide +kernel⟩ hw8 ⟨hdd, by decide⟩ jcc0 (fun r9 g9 h9 => by obtain ⟨rfl, h⟩ := h9; exact kk g9 h) jNo.x
-- VisitingHours$Row.<init>(Z)V
abbrev MX11_init : jM := (yX11_init, cX11_init, 2, none, [])
def wX11_init (g : List jC) (c : Nat) (n : Nat) (h : Nat) (a1 : Int32) (Q : List jC → Prop) : Prop :=
  (∃ c5 n5, c = c5 + 1 ∧ n = n5 + 3 ∧ (∀ q5, q5 = g.length → (∀ g5 : List jC, g5 = g ++ [.inr (15, [.int 0, .null, .int 0])] → wJ2_init g5 q5 (fun g9 => (∃ fs12 : List Value, g9[h]? = some (.inr (9, fs12)) ∧ jn ≤ h ∧ 1 < fs12.length ∧ (∀ g12 : List jC, g12 = g9.set h (.inr (9, fs12.set 1 (.ref q5))) → (jz a1 ∧ (∃ fs17 : List Value, g12[h]? = some (.inr (9, fs17)) ∧ jn ≤ h ∧ 0 < fs17.length ∧ (∀ g17 : List jC, g17 = g12.set h (.inr (9, fs17.set 0 (.int a1))) → Q g17)))))))))
theorem mX11_init {G : jG} {l : Launch} {d : Nat} (htr : l.stackTraces = false) (hdd : 4 ≤ d) {g : List jC} {c : Nat} {n : Nat} {h : Nat} {a1 : Int32} {Q : List jC → Prop} (hw : wX11_init g c n h a1 Q) : JM G l MX11_init d c n [.ref h, .int a1] g (jWn Q) jNo := by
  refine JM.intro (by decide) rfl htr (Nat.le_of_ble_eq_true rfl) ?_
  show J G l MX11_init d c n 0 [(0, .ref h), (1, .int a1)] [] g _ _
  unfold wX11_init at hw
  refine J.aload_n 0 dX11_init_0 rfl ?_
  refine J.objInit dX11_init_1 q1441 q193 q194 (by omega) (Nat.le_of_ble_eq_true rfl) ?_
  refine J.aload_n 0 dX11_init_4 rfl ?_
  obtain ⟨c5, n5, rfl, rfl, hw⟩ := hw
  refine J.new (C := RJ2) (T0 := TJ2) (N := 3) [.int 0, .null, .int 0] dX11_init_5 (ci := 15) rfl in_J2 tyJ2 tyJ2_ok q1442 q377 q150 rfl (fun _ => rfl) ?_
  refine J.nmr hw ?_
  clear hw
  intro q5 hw
  refine J.nmg hw ?_
  clear hw
  intro g5 hw
  refine J.dup dX11_init_8 rfl ?_
  refine kiX11_9 rfl htr dX11_init_9 (by omega) (Nat.le_of_ble_eq_true rfl) hw ?_
  clear hw
  intro g9 hw
  obtain ⟨fs12, hk12, hn12, hl12, hw⟩ := hw
  refine J.putfF (C := RX11) (T0 := TX11) (N := 2) 1 dX11_init_12 hn12 hk12 rfl in_X11 tyX11 tyX11_ok nmX11 (by decide) q1445 rfl rfl rfl rfl (fun _ => ⟨rfl, rfl⟩) hl12 ?_
  refine J.nmg hw ?_
  clear hw
  intro g12 hw
  refine J.aload_n 0 dX11_init_15 rfl ?_
  refine J.iload_n 1 dX11_init_16 rfl ?_
  obtain ⟨hp17, hw⟩ := hw
  obtain ⟨fs17, hk17, hn17, hl17, hw⟩ := hw
  refine J.putfF (C := RX11) (T0 := TX11) (N := 2) 0 dX11_init_17 hn17 hk17 rfl in_X11 tyX11 tyX11_ok nmX11 (by decide) q1444 rfl rfl rfl rfl (jz_put hp17) hl17 ?_
  refine J.nmg hw ?_
  clear hw
  intro g17 hw
  exact J.vret rfl dX11_init_20 ⟨rfl, hw⟩
-- VisitingHours$Not.<init>(LVisitingHours$Cond;)V
abbrev MX12_init : jM := (yX12_init, cX12_init, 2, none, [])
def wX12_init (g : List jC) (h : Nat) (a1 : Nat) (Q : List jC → Prop) : Prop :=
  (∃ fs6 : List Value, g[h]? = some (.inr (10, fs6)) ∧ jn ≤ h ∧ 0 < fs6.length ∧ (∀ g6 : List jC, g6 = g.set h (.inr (10, fs6.set 0 (.ref a1))) → Q g6))
theorem mX12_init {G : jG} {l : Launch} {d : Nat} (htr : l.stackTraces = false) (hdd : 1 ≤ d) {g : List jC} {h : Nat} {a1 : Nat} {Q : List jC → Prop} (hw : wX12_init g h a1 Q) : JM G l MX12_init d 0 0 [.ref h, .ref a1] g (jWn Q) jNo := by
  refine JM.intro (by decide) rfl htr (Nat.le_of_ble_eq_true rfl) ?_
  show J G l MX12_init d 0 0 0 [(0, .ref h), (1, .ref a1)] [] g _ _
  unfold wX12_init at hw
  refine J.aload_n 0 dX12_init_0 rfl ?_
  refine J.objInit dX12_init_1 q1474 q193 q194 (by omega) (Nat.le_of_ble_eq_true rfl) ?_
  refine J.aload_n 0 dX12_init_4 rfl ?_
  refine J.aload_n 1 dX12_init_5 rfl ?_
  obtain ⟨fs6, hk6, hn6, hl6, hw⟩ := hw
  refine J.putfF (C := RX12) (T0 := TX12) (N := 1) 0 dX12_init_6 hn6 hk6 rfl in_X12 tyX12 tyX12_ok nmX12 (by decide) q1475 rfl rfl rfl rfl (fun _ => ⟨rfl, rfl⟩) hl6 ?_
  refine J.nmg hw ?_
  clear hw
  intro g6 hw
  exact J.vret rfl dX12_init_9 ⟨rfl, hw⟩
-- VisitingHours$Tag.<init>(Z)V
abbrev MX13_init : jM := (yX13_init, cX13_init, 2, none, [])
def wX13_init (g : List jC) (h : Nat) (a1 : Int32) (Q : List jC → Prop) : Prop :=
  (jz a1 ∧ (∃ fs6 : List Value, g[h]? = some (.inr (11, fs6)) ∧ jn ≤ h ∧ 0 < fs6.length ∧ (∀ g6 : List jC, g6 = g.set h (.inr (11, fs6.set 0 (.int a1))) → Q g6)))
theorem mX13_init {G : jG} {l : Launch} {d : Nat} (htr : l.stackTraces = false) (hdd : 1 ≤ d) {g : List jC} {h : Nat} {a1 : Int32} {Q : List jC → Prop} (hw : wX13_init g h a1 Q) : JM G l MX13_init d 0 0 [.ref h, .int a1] g (jWn Q) jNo := by
  refine JM.intro (by decide) rfl htr (Nat.le_of_ble_eq_true rfl) ?_
  show J G l MX13_init d 0 0 0 [(0, .ref h), (1, .int a1)] [] g _ _
  unfold wX13_init at hw
  refine J.aload_n 0 dX13_init_0 rfl ?_
  refine J.objInit dX13_init_1 q1485 q193 q194 (by omega) (Nat.le_of_ble_eq_true rfl) ?_
  refine J.aload_n 0 dX13_init_4 rfl ?_
  refine J.iload_n 1 dX13_init_5 rfl ?_
  obtain ⟨hp6, hw⟩ := hw
  obtain ⟨fs6, hk6, hn6, hl6, hw⟩ := hw
  refine J.putfF (C := RX13) (T0 := TX13) (N := 1) 0 dX13_init_6 hn6 hk6 rfl in_X13 tyX13 tyX13_ok nmX13 (by decide) q1486 rfl rfl rfl rfl (jz_put hp6) hl6 ?_
  refine J.nmg hw ?_
  clear hw
  intro g6 hw
  exact J.vret rfl dX13_init_9 ⟨rfl, hw⟩
theorem kiX14_9 {G : jG} {l : Launch} {M : jM} {d c n pc : Nat} {lv : List (Nat × Value)} {rest : List Value} {g : List jC} {post : Option Value → List jC → Prop} {xp : String → List jC → Prop} (hM : M.1.cls = RX14) (htr : l.stackTraces = false) {h : Nat} {Q : List jC → Prop} (hd : decode M.2.1 pc = .ok (.invokespecial 9, 3)) (hdd : 3 + 1 ≤ d) (hw8 : (rest.map fun v => v.category).sum ≤ 8) (hw : wJ2_init g h Q) (kk : ∀ g', Q g' → J G l M d c n (pc + 3) lv rest g' post xp) : J G l M d c n pc lv (.ref h :: rest) g post xp :=
  J.callI (M' := MJ2_init) (As := []) (hcw := lw_meth q380) (hini := q150) (hlk := by rw [hM]; exact q1502) (hin := q379) (hret := rfl) (mJ2_init htr (Nat.le_refl _) hw) hd rfl rfl ⟨by decide, by decide, by show _ = some 0; decide +kernel⟩ hw8 ⟨hdd, by decide⟩ jcc0 (fun r9 g9 h9 => by obtain ⟨rfl, h⟩ := h9; exact kk g9 h) jNo.x
-- VisitingHours$Sum.<init>()V
abbrev MX14_init : jM := (yX14_init, cX14_init, 1, none, [])
def wX14_init (g : List jC) (c : Nat) (n : Nat) (h : Nat) (Q : List jC → Prop) : Prop :=
  (∃ c5 n5, c = c5 + 1 ∧ n = n5 + 3 ∧ (∀ q5, q5 = g.length → (∀ g5 : List jC, g5 = g ++ [.inr (15, [.int 0, .null, .int 0])] → wJ2_init g5 q5 (fun g9 => (∃ fs12 : List Value, g9[h]? = some (.inr (12, fs12)) ∧ jn ≤ h ∧ 0 < fs12.length ∧ (∀ g12 : List jC, g12 = g9.set h (.inr (12, fs12.set 0 (.ref q5))) → Q g12))))))
theorem mX14_init {G : jG} {l : Launch} {d : Nat} (htr : l.stackTraces = false) (hdd : 4 ≤ d) {g : List jC} {c : Nat} {n : Nat} {h : Nat} {Q : List jC → Prop} (hw : wX14_init g c n h Q) : JM G l MX14_init d c n [.ref h] g (jWn Q) jNo := by
  refine JM.intro (by decide) rfl htr (Nat.le_of_ble_eq_true rfl) ?_
  show J G l MX14_init d c n 0 [(0, .ref h)] [] g _ _
  unfold wX14_init at hw
  refine J.aload_n 0 dX14_init_0 rfl ?_
  refine J.objInit dX14_init_1 q1500 q193 q194 (by omega) (Nat.le_of_ble_eq_true rfl) ?_
  refine J.aload_n 0 dX14_init_4 rfl ?_
  obtain ⟨c5, n5, rfl, rfl, hw⟩ := hw
  refine J.new (C := RJ2) (T0 := TJ2) (N := 3) [.int 0, .null, .int 0] dX14_init_5 (ci := 15) rfl in_J2 tyJ2 tyJ2_ok q1501 q377 q150 rfl (fun _ => rfl) ?_
  refine J.nmr hw ?_
  clear hw
  intro q5 hw
  refine J.nmg hw ?_
  clear hw
  intro g5 hw
  refine J.dup dX14_init_8 rfl ?_
  refine kiX14_9 rfl htr dX14_init_9 (by omega) (Nat.le_of_ble_eq_true rfl) hw ?_
  clear hw
  intro g9 hw
  obtain ⟨fs12, hk12, hn12, hl12, hw⟩ := hw
  refine J.putfF (C := RX14) (T0 := TX14) (N := 1) 0 dX14_init_12 hn12 hk12 rfl in_X14 tyX14 tyX14_ok nmX14 (by decide) q1503 rfl rfl rfl rfl (fun _ => ⟨rfl, rfl⟩) hl12 ?_
  refine J.nmg hw ?_
  clear hw
  intro g12 hw
  exact J.vret rfl dX14_init_15 ⟨rfl, hw⟩
-- VisitingHours$Part.<init>(ILVisitingHours$Fact;)V
abbrev MX15_init : jM := (yX15_init, cX15_init, 3, none, [])
def wX15_init (g : List jC) (h : Nat) (a1 : Int32) (a2 : Option Nat) (Q : List jC → Prop) : Prop :=
  (∃ fs6 : List Value, g[h]? = some (.inr (13, fs6)) ∧ jn ≤ h ∧ 0 < fs6.length ∧ (∀ g6 : List jC, g6 = g.set h (.inr (13, fs6.set 0 (.int a1))) → (∃ fs11 : List Value, g6[h]? = some (.inr (13, fs11)) ∧ jn ≤ h ∧ 1 < fs11.length ∧ (∀ g11 : List jC, g11 = g6.set h (.inr (13, fs11.set 1 (va_rf a2))) → Q g11))))
theorem mX15_init {G : jG} {l : Launch} {d : Nat} (htr : l.stackTraces = false) (hdd : 1 ≤ d) {g : List jC} {h : Nat} {a1 : Int32} {a2 : Option Nat} {Q : List jC → Prop} (hw : wX15_init g h a1 a2 Q) : JM G l MX15_init d 0 0 [.ref h, .int a1, va_rf a2] g (jWn Q) jNo := by
  refine JM.intro (by decide) rfl htr (by cases a2 <;> exact Nat.le_of_ble_eq_true rfl) ?_
  show J G l MX15_init d 0 0 0 [(0, .ref h), (1, .int a1), (2, va_rf a2)] [] g _ _
  unfold wX15_init at hw
  refine J.aload_n 0 dX15_init_0 rfl ?_
  refine J.objInit dX15_init_1 q1521 q193 q194 (by omega) (Nat.le_of_ble_eq_true rfl) ?_
  refine J.aload_n 0 dX15_init_4 rfl ?_
  refine J.iload_n 1 dX15_init_5 rfl ?_
  obtain ⟨fs6, hk6, hn6, hl6, hw⟩ := hw
  refine J.putfF (C := RX15) (T0 := TX15) (N := 2) 0 dX15_init_6 hn6 hk6 rfl in_X15 tyX15 tyX15_ok nmX15 (by decide) q1522 rfl rfl rfl rfl (fun _ => ⟨rfl, rfl⟩) hl6 ?_
  refine J.nmg hw ?_
  clear hw
  intro g6 hw
  refine J.aload_n 0 dX15_init_9 rfl ?_
  refine J.aloadQ_n 2 dX15_init_10 rfl ?_
  obtain ⟨fs11, hk11, hn11, hl11, hw⟩ := hw
  refine J.putfF (C := RX15) (T0 := TX15) (N := 2) 1 dX15_init_11 hn11 hk11 rfl in_X15 tyX15 tyX15_ok nmX15 (by decide) q1523 rfl rfl rfl rfl (jq_put _ (Or.inl ⟨_, rfl⟩)) hl11 ?_
  refine J.nmg hw ?_
  clear hw
  intro g11 hw
  exact J.vret rfl dX15_init_14 ⟨rfl, hw⟩
-- VisitingHours$Less.<init>(LVisitingHours$Sum;LVisitingHours$Sum;)V
abbrev MX17_init : jM := (yX17_init, cX17_init, 3, none, [])
def wX17_init (g : List jC) (h : Nat) (a1 : Nat) (a2 : Nat) (Q : List jC → Prop) : Prop :=
  (∃ fs6 : List Value, g[h]? = some (.inr (14, fs6)) ∧ jn ≤ h ∧ 0 < fs6.length ∧ (∀ g6 : List jC, g6 = g.set h (.inr (14, fs6.set 0 (.ref a1))) → (∃ fs11 : List Value, g6[h]? = some (.inr (14, fs11)) ∧ jn ≤ h ∧ 1 < fs11.length ∧ (∀ g11 : List jC, g11 = g6.set h (.inr (14, fs11.set 1 (.ref a2))) → Q g11))))
theorem mX17_init {G : jG} {l : Launch} {d : Nat} (htr : l.stackTraces = false) (hdd : 1 ≤ d) {g : List jC} {h : Nat} {a1 : Nat} {a2 : Nat} {Q : List jC → Prop} (hw : wX17_init g h a1 a2 Q) : JM G l MX17_init d 0 0 [.ref h, .ref a1, .ref a2] g (jWn Q) jNo := by
  refine JM.intro (by decide) rfl htr (Nat.le_of_ble_eq_true rfl) ?_
  show J G l MX17_init d 0 0 0 [(0, .ref h), (1, .ref a1), (2, .ref a2)] [] g _ _
  unfold wX17_init at hw
  refine J.aload_n 0 dX17_init_0 rfl ?_
  refine J.objInit dX17_init_1 q1608 q193 q194 (by omega) (Nat.le_of_ble_eq_true rfl) ?_
  refine J.aload_n 0 dX17_init_4 rfl ?_
  refine J.aload_n 1 dX17_init_5 rfl ?_
  obtain ⟨fs6, hk6, hn6, hl6, hw⟩ := hw
  refine J.putfF (C := RX17) (T0 := TX17) (N := 2) 0 dX17_init_6 hn6 hk6 rfl in_X17 tyX17 tyX17_ok nmX17 (by decide) q1609 rfl rfl rfl rfl (fun _ => ⟨rfl, rfl⟩) hl6 ?_
  refine J.nmg hw ?_
  clear hw
  intro g6 hw
  refine J.aload_n 0 dX17_init_9 rfl ?_
  refine J.aload_n 2 dX17_init_10 rfl ?_
  obtain ⟨fs11, hk11, hn11, hl11, hw⟩ := hw
  refine J.putfF (C := RX17) (T0 := TX17) (N := 2) 1 dX17_init_11 hn11 hk11 rfl in_X17 tyX17 tyX17_ok nmX17 (by decide) q1610 rfl rfl rfl rfl (fun _ => ⟨rfl, rfl⟩) hl11 ?_
  refine J.nmg hw ?_
  clear hw
  intro g11 hw
  exact J.vret rfl dX17_init_14 ⟨rfl, hw⟩
-- VisitingHours$World.<init>()V
abbrev MX2_init : jM := (yX2_init, cX2_init, 1, none, [])
set_option maxRecDepth 100000 in
def wX2_init_101 (h : Nat) (Q : List jC → Prop) (g : List jC) (c : Nat) (n : Nat) : Prop :=
  (¬ (360 : Int32) < 0 ∧ ∃ N105 c105 n105, (360 : Int32).toNatClampNeg = N105 ∧ N105 * 4 ≤ 536870912 ∧ c = c105 + 1 ∧ n = n105 + N105 ∧ (∀ q105, q105 = g.length → (∀ g105 : List jC, g105 = g ++ [.inl (0, N105, .inl (fun _ => 0))] → (∃ fs107 : List Value, g105[h]? = some (.inr (1, fs107)) ∧ jn ≤ h ∧ 19 < fs107.length ∧ (∀ g107 : List jC, g107 = g105.set h (.inr (1, fs107.set 19 (.ref q105))) → Q g107)))))
set_option maxRecDepth 100000 in
theorem rX2_init_101 {G : jG} {l : Launch} {d : Nat} (htr : l.stackTraces = false) (hdd : 1 ≤ d) {h : Nat} {Q : List jC → Prop} {g : List jC} {c : Nat} {n : Nat} (hw : wX2_init_101 h Q g c n) : J G l MX2_init d c n 101 [(0, .ref h)] [] g (jWn Q) jNo := by
  unfold wX2_init_101 at hw
  refine J.aload_n 0 dX2_init_101 rfl ?_
  refine J.sipush (v := (360 : Int32)) dX2_init_102 (by decide) ?_
  obtain ⟨h0105, N105, c105, n105, hN105, hb105, rfl, rfl, hw⟩ := hw
  refine J.newaI N105 dX2_init_105 h0105 hN105 hb105 ?_
  refine J.nmr hw ?_
  clear hw
  intro q105 hw
  refine J.nmg hw ?_
  clear hw
  intro g105 hw
  obtain ⟨fs107, hk107, hn107, hl107, hw⟩ := hw
  refine J.putfF (C := RX2) (T0 := TX2) (N := 22) 19 dX2_init_107 hn107 hk107 rfl in_X2 tyX2 tyX2_ok nmX2 (by decide) q245 rfl rfl rfl rfl (fun _ => ⟨rfl, rfl⟩) hl107 ?_
  refine J.nmg hw ?_
  clear hw
  intro g107 hw
  exact J.vret rfl dX2_init_110 ⟨rfl, hw⟩
set_option maxRecDepth 100000 in
def wX2_init_89 (h : Nat) (Q : List jC → Prop) (g : List jC) (c : Nat) (n : Nat) : Prop :=
  (∃ c94 n94, c = c94 + (1 + 8) ∧ n = n94 + (8 + 8 * 8) ∧ (∀ q94, q94 = g.length → (∀ g94 : List jC, g94 = g ++ (.inl (4, 8, .inr (.inr (.inr (.inr (fun j => if j < 8 then some (g.length + 1 + j) else none))))) :: List.replicate 8 (.inl (0, 8, .inl (fun _ => 0)))) → (∃ fs98 : List Value, g94[h]? = some (.inr (1, fs98)) ∧ jn ≤ h ∧ 18 < fs98.length ∧ (∀ g98 : List jC, g98 = g94.set h (.inr (1, fs98.set 18 (.ref q94))) → wX2_init_101 h Q g98 c94 n94)))))
set_option maxRecDepth 100000 in
theorem rX2_init_89 {G : jG} {l : Launch} {d : Nat} (htr : l.stackTraces = false) (hdd : 1 ≤ d) {h : Nat} {Q : List jC → Prop} {g : List jC} {c : Nat} {n : Nat} (hw : wX2_init_89 h Q g c n) : J G l MX2_init d c n 89 [(0, .ref h)] [] g (jWn Q) jNo := by
  unfold wX2_init_89 at hw
  refine J.aload_n 0 dX2_init_89 rfl ?_
  refine J.bipush (v := (8 : Int32)) dX2_init_90 (by decide) ?_
  refine J.bipush (v := (8 : Int32)) dX2_init_92 (by decide) ?_
  obtain ⟨c94, n94, rfl, rfl, hw⟩ := hw
  refine J.multi (N := 8) (K := 8) dX2_init_94 q201 rfl rfl (by decide) (by decide) ?_
  refine J.nmr hw ?_
  clear hw
  intro q94 hw
  refine J.nmg hw ?_
  clear hw
  intro g94 hw
  obtain ⟨fs98, hk98, hn98, hl98, hw⟩ := hw
  refine J.putfF (C := RX2) (T0 := TX2) (N := 22) 18 dX2_init_98 hn98 hk98 rfl in_X2 tyX2 tyX2_ok nmX2 (by decide) q243 rfl rfl rfl rfl (fun _ => ⟨rfl, rfl⟩) hl98 ?_
  refine J.nmg hw ?_
  clear hw
  intro g98 hw
  exact (rX2_init_101 htr hdd hw)
set_option maxRecDepth 100000 in
def wX2_init_77 (h : Nat) (Q : List jC → Prop) (g : List jC) (c : Nat) (n : Nat) : Prop :=
  (∃ c82 n82, c = c82 + (1 + 8) ∧ n = n82 + (8 + 8 * 8) ∧ (∀ q82, q82 = g.length → (∀ g82 : List jC, g82 = g ++ (.inl (4, 8, .inr (.inr (.inr (.inr (fun j => if j < 8 then some (g.length + 1 + j) else none))))) :: List.replicate 8 (.inl (0, 8, .inl (fun _ => 0)))) → (∃ fs86 : List Value, g82[h]? = some (.inr (1, fs86)) ∧ jn ≤ h ∧ 17 < fs86.length ∧ (∀ g86 : List jC, g86 = g82.set h (.inr (1, fs86.set 17 (.ref q82))) → wX2_init_89 h Q g86 c82 n82)))))
set_option maxRecDepth 100000 in
theorem rX2_init_77 {G : jG} {l : Launch} {d : Nat} (htr : l.stackTraces = false) (hdd : 1 ≤ d) {h : Nat} {Q : List jC → Prop} {g : List jC} {c : Nat} {n : Nat} (hw : wX2_init_77 h Q g c n) : J G l MX2_init d c n 77 [(0, .ref h)] [] g (jWn Q) jNo := by
  unfold wX2_init_77 at hw
  refine J.aload_n 0 dX2_init_77 rfl ?_
  refine J.bipush (v := (8 : Int32)) dX2_init_78 (by decide) ?_
  refine J.bipush (v := (8 : Int32)) dX2_init_80 (by decide) ?_
  obtain ⟨c82, n82, rfl, rfl, hw⟩ := hw
  refine J.multi (N := 8) (K := 8) dX2_init_82 q201 rfl rfl (by decide) (by decide) ?_
  refine J.nmr hw ?_
  clear hw
  intro q82 hw
  refine J.nmg hw ?_
  clear hw
  intro g82 hw
  obtain ⟨fs86, hk86, hn86, hl86, hw⟩ := hw
  refine J.putfF (C := RX2) (T0 := TX2) (N := 22) 17 dX2_init_86 hn86 hk86 rfl in_X2 tyX2 tyX2_ok nmX2 (by decide) q240 rfl rfl rfl rfl (fun _ => ⟨rfl, rfl⟩) hl86 ?_
  refine J.nmg hw ?_
  clear hw
  intro g86 hw
  exact (rX2_init_89 htr hdd hw)
set_option maxRecDepth 100000 in
def wX2_init_65 (h : Nat) (Q : List jC → Prop) (g : List jC) (c : Nat) (n : Nat) : Prop :=
  (∃ c70 n70, c = c70 + (1 + 8) ∧ n = n70 + (8 + 8 * 8) ∧ (∀ q70, q70 = g.length → (∀ g70 : List jC, g70 = g ++ (.inl (4, 8, .inr (.inr (.inr (.inr (fun j => if j < 8 then some (g.length + 1 + j) else none))))) :: List.replicate 8 (.inl (0, 8, .inl (fun _ => 0)))) → (∃ fs74 : List Value, g70[h]? = some (.inr (1, fs74)) ∧ jn ≤ h ∧ 16 < fs74.length ∧ (∀ g74 : List jC, g74 = g70.set h (.inr (1, fs74.set 16 (.ref q70))) → wX2_init_77 h Q g74 c70 n70)))))
set_option maxRecDepth 100000 in
theorem rX2_init_65 {G : jG} {l : Launch} {d : Nat} (htr : l.stackTraces = false) (hdd : 1 ≤ d) {h : Nat} {Q : List jC → Prop} {g : List jC} {c : Nat} {n : Nat} (hw : wX2_init_65 h Q g c n) : J G l MX2_init d c n 65 [(0, .ref h)] [] g (jWn Q) jNo := by
  unfold wX2_init_65 at hw
  refine J.aload_n 0 dX2_init_65 rfl ?_
  refine J.bipush (v := (8 : Int32)) dX2_init_66 (by decide) ?_
  refine J.bipush (v := (8 : Int32)) dX2_init_68 (by decide) ?_
  obtain ⟨c70, n70, rfl, rfl, hw⟩ := hw
  refine J.multi (N := 8) (K := 8) dX2_init_70 q201 rfl rfl (by decide) (by decide) ?_
  refine J.nmr hw ?_
  clear hw
  intro q70 hw
  refine J.nmg hw ?_
  clear hw
  intro g70 hw
  obtain ⟨fs74, hk74, hn74, hl74, hw⟩ := hw
  refine J.putfF (C := RX2) (T0 := TX2) (N := 22) 16 dX2_init_74 hn74 hk74 rfl in_X2 tyX2 tyX2_ok nmX2 (by decide) q237 rfl rfl rfl rfl (fun _ => ⟨rfl, rfl⟩) hl74 ?_
  refine J.nmg hw ?_
  clear hw
  intro g74 hw
  exact (rX2_init_77 htr hdd hw)
set_option maxRecDepth 100000 in
def wX2_init_49 (h : Nat) (Q : List jC → Prop) (g : List jC) (c : Nat) (n : Nat) : Prop :=
  (¬ (8 : Int32) < 0 ∧ ∃ N52 c52 n52, (8 : Int32).toNatClampNeg = N52 ∧ N52 * 4 ≤ 536870912 ∧ c = c52 + 1 ∧ n = n52 + N52 ∧ (∀ q52, q52 = g.length → (∀ g52 : List jC, g52 = g ++ [.inl (0, N52, .inl (fun _ => 0))] → (∃ fs54 : List Value, g52[h]? = some (.inr (1, fs54)) ∧ jn ≤ h ∧ 14 < fs54.length ∧ (∀ g54 : List jC, g54 = g52.set h (.inr (1, fs54.set 14 (.ref q52))) → (¬ (8 : Int32) < 0 ∧ ∃ N60 c60 n60, (8 : Int32).toNatClampNeg = N60 ∧ N60 * 4 ≤ 536870912 ∧ c52 = c60 + 1 ∧ n52 = n60 + N60 ∧ (∀ q60, q60 = g54.length → (∀ g60 : List jC, g60 = g54 ++ [.inl (0, N60, .inl (fun _ => 0))] → (∃ fs62 : List Value, g60[h]? = some (.inr (1, fs62)) ∧ jn ≤ h ∧ 15 < fs62.length ∧ (∀ g62 : List jC, g62 = g60.set h (.inr (1, fs62.set 15 (.ref q60))) → wX2_init_65 h Q g62 c60 n60))))))))))
set_option maxRecDepth 100000 in
theorem rX2_init_49 {G : jG} {l : Launch} {d : Nat} (htr : l.stackTraces = false) (hdd : 1 ≤ d) {h : Nat} {Q : List jC → Prop} {g : List jC} {c : Nat} {n : Nat} (hw : wX2_init_49 h Q g c n) : J G l MX2_init d c n 49 [(0, .ref h)] [] g (jWn Q) jNo := by
  unfold wX2_init_49 at hw
  refine J.aload_n 0 dX2_init_49 rfl ?_
  refine J.bipush (v := (8 : Int32)) dX2_init_50 (by decide) ?_
  obtain ⟨h052, N52, c52, n52, hN52, hb52, rfl, rfl, hw⟩ := hw
  refine J.newaI N52 dX2_init_52 h052 hN52 hb52 ?_
  refine J.nmr hw ?_
  clear hw
  intro q52 hw
  refine J.nmg hw ?_
  clear hw
  intro g52 hw
  obtain ⟨fs54, hk54, hn54, hl54, hw⟩ := hw
  refine J.putfF (C := RX2) (T0 := TX2) (N := 22) 14 dX2_init_54 hn54 hk54 rfl in_X2 tyX2 tyX2_ok nmX2 (by decide) q233 rfl rfl rfl rfl (fun _ => ⟨rfl, rfl⟩) hl54 ?_
  refine J.nmg hw ?_
  clear hw
  intro g54 hw
  refine J.aload_n 0 dX2_init_57 rfl ?_
  refine J.bipush (v := (8 : Int32)) dX2_init_58 (by decide) ?_
  obtain ⟨h060, N60, c60, n60, hN60, hb60, rfl, rfl, hw⟩ := hw
  refine J.newaI N60 dX2_init_60 h060 hN60 hb60 ?_
  refine J.nmr hw ?_
  clear hw
  intro q60 hw
  refine J.nmg hw ?_
  clear hw
  intro g60 hw
  obtain ⟨fs62, hk62, hn62, hl62, hw⟩ := hw
  refine J.putfF (C := RX2) (T0 := TX2) (N := 22) 15 dX2_init_62 hn62 hk62 rfl in_X2 tyX2 tyX2_ok nmX2 (by decide) q235 rfl rfl rfl rfl (fun _ => ⟨rfl, rfl⟩) hl62 ?_
  refine J.nmg hw ?_
  clear hw
  intro g62 hw
  exact (rX2_init_65 htr hdd hw)
set_option maxRecDepth 100000 in
def wX2_init_33 (h : Nat) (Q : List jC → Prop) (g : List jC) (c : Nat) (n : Nat) : Prop :=
  (¬ (8 : Int32) < 0 ∧ ∃ N36 c36 n36, (8 : Int32).toNatClampNeg = N36 ∧ N36 * 4 ≤ 536870912 ∧ c = c36 + 1 ∧ n = n36 + N36 ∧ (∀ q36, q36 = g.length → (∀ g36 : List jC, g36 = g ++ [.inl (0, N36, .inl (fun _ => 0))] → (∃ fs38 : List Value, g36[h]? = some (.inr (1, fs38)) ∧ jn ≤ h ∧ 12 < fs38.length ∧ (∀ g38 : List jC, g38 = g36.set h (.inr (1, fs38.set 12 (.ref q36))) → (¬ (8 : Int32) < 0 ∧ ∃ N44 c44 n44, (8 : Int32).toNatClampNeg = N44 ∧ N44 * 4 ≤ 536870912 ∧ c36 = c44 + 1 ∧ n36 = n44 + N44 ∧ (∀ q44, q44 = g38.length → (∀ g44 : List jC, g44 = g38 ++ [.inl (0, N44, .inl (fun _ => 0))] → (∃ fs46 : List Value, g44[h]? = some (.inr (1, fs46)) ∧ jn ≤ h ∧ 13 < fs46.length ∧ (∀ g46 : List jC, g46 = g44.set h (.inr (1, fs46.set 13 (.ref q44))) → wX2_init_49 h Q g46 c44 n44))))))))))
set_option maxRecDepth 100000 in
theorem rX2_init_33 {G : jG} {l : Launch} {d : Nat} (htr : l.stackTraces = false) (hdd : 1 ≤ d) {h : Nat} {Q : List jC → Prop} {g : List jC} {c : Nat} {n : Nat} (hw : wX2_init_33 h Q g c n) : J G l MX2_init d c n 33 [(0, .ref h)] [] g (jWn Q) jNo := by
  unfold wX2_init_33 at hw
  refine J.aload_n 0 dX2_init_33 rfl ?_
  refine J.bipush (v := (8 : Int32)) dX2_init_34 (by decide) ?_
  obtain ⟨h036, N36, c36, n36, hN36, hb36, rfl, rfl, hw⟩ := hw
  refine J.newaI N36 dX2_init_36 h036 hN36 hb36 ?_
  refine J.nmr hw ?_
  clear hw
  intro q36 hw
  refine J.nmg hw ?_
  clear hw
  intro g36 hw
  obtain ⟨fs38, hk38, hn38, hl38, hw⟩ := hw
  refine J.putfF (C := RX2) (T0 := TX2) (N := 22) 12 dX2_init_38 hn38 hk38 rfl in_X2 tyX2 tyX2_ok nmX2 (by decide) q229 rfl rfl rfl rfl (fun _ => ⟨rfl, rfl⟩) hl38 ?_
  refine J.nmg hw ?_
  clear hw
  intro g38 hw
  refine J.aload_n 0 dX2_init_41 rfl ?_
  refine J.bipush (v := (8 : Int32)) dX2_init_42 (by decide) ?_
  obtain ⟨h044, N44, c44, n44, hN44, hb44, rfl, rfl, hw⟩ := hw
  refine J.newaI N44 dX2_init_44 h044 hN44 hb44 ?_
  refine J.nmr hw ?_
  clear hw
  intro q44 hw
  refine J.nmg hw ?_
  clear hw
  intro g44 hw
  obtain ⟨fs46, hk46, hn46, hl46, hw⟩ := hw
  refine J.putfF (C := RX2) (T0 := TX2) (N := 22) 13 dX2_init_46 hn46 hk46 rfl in_X2 tyX2 tyX2_ok nmX2 (by decide) q231 rfl rfl rfl rfl (fun _ => ⟨rfl, rfl⟩) hl46 ?_
  refine J.nmg hw ?_
  clear hw
  intro g46 hw
  exact (rX2_init_49 htr hdd hw)
set_option maxRecDepth 100000 in
def wX2_init_17 (h : Nat) (Q : List jC → Prop) (g : List jC) (c : Nat) (n : Nat) : Prop :=
  (¬ (8 : Int32) < 0 ∧ ∃ N20 c20 n20, (8 : Int32).toNatClampNeg = N20 ∧ N20 * 4 ≤ 536870912 ∧ c = c20 + 1 ∧ n = n20 + N20 ∧ (∀ q20, q20 = g.length → (∀ g20 : List jC, g20 = g ++ [.inl (0, N20, .inl (fun _ => 0))] → (∃ fs22 : List Value, g20[h]? = some (.inr (1, fs22)) ∧ jn ≤ h ∧ 10 < fs22.length ∧ (∀ g22 : List jC, g22 = g20.set h (.inr (1, fs22.set 10 (.ref q20))) → (¬ (8 : Int32) < 0 ∧ ∃ N28 c28 n28, (8 : Int32).toNatClampNeg = N28 ∧ N28 * 4 ≤ 536870912 ∧ c20 = c28 + 1 ∧ n20 = n28 + N28 ∧ (∀ q28, q28 = g22.length → (∀ g28 : List jC, g28 = g22 ++ [.inl (0, N28, .inl (fun _ => 0))] → (∃ fs30 : List Value, g28[h]? = some (.inr (1, fs30)) ∧ jn ≤ h ∧ 11 < fs30.length ∧ (∀ g30 : List jC, g30 = g28.set h (.inr (1, fs30.set 11 (.ref q28))) → wX2_init_33 h Q g30 c28 n28))))))))))
set_option maxRecDepth 100000 in
theorem rX2_init_17 {G : jG} {l : Launch} {d : Nat} (htr : l.stackTraces = false) (hdd : 1 ≤ d) {h : Nat} {Q : List jC → Prop} {g : List jC} {c : Nat} {n : Nat} (hw : wX2_init_17 h Q g c n) : J G l MX2_init d c n 17 [(0, .ref h)] [] g (jWn Q) jNo := by
  unfold wX2_init_17 at hw
  refine J.aload_n 0 dX2_init_17 rfl ?_
  refine J.bipush (v := (8 : Int32)) dX2_init_18 (by decide) ?_
  obtain ⟨h020, N20, c20, n20, hN20, hb20, rfl, rfl, hw⟩ := hw
  refine J.newaI N20 dX2_init_20 h020 hN20 hb20 ?_
  refine J.nmr hw ?_
  clear hw
  intro q20 hw
  refine J.nmg hw ?_
  clear hw
  intro g20 hw
  obtain ⟨fs22, hk22, hn22, hl22, hw⟩ := hw
  refine J.putfF (C := RX2) (T0 := TX2) (N := 22) 10 dX2_init_22 hn22 hk22 rfl in_X2 tyX2 tyX2_ok nmX2 (by decide) q225 rfl rfl rfl rfl (fun _ => ⟨rfl, rfl⟩) hl22 ?_
  refine J.nmg hw ?_
  clear hw
  intro g22 hw
  refine J.aload_n 0 dX2_init_25 rfl ?_
  refine J.bipush (v := (8 : Int32)) dX2_init_26 (by decide) ?_
  obtain ⟨h028, N28, c28, n28, hN28, hb28, rfl, rfl, hw⟩ := hw
  refine J.newaI N28 dX2_init_28 h028 hN28 hb28 ?_
  refine J.nmr hw ?_
  clear hw
  intro q28 hw
  refine J.nmg hw ?_
  clear hw
  intro g28 hw
  obtain ⟨fs30, hk30, hn30, hl30, hw⟩ := hw
  refine J.putfF (C := RX2) (T0 := TX2) (N := 22) 11 dX2_init_30 hn30 hk30 rfl in_X2 tyX2 tyX2_ok nmX2 (by decide) q227 rfl rfl rfl rfl (fun _ => ⟨rfl, rfl⟩) hl30 ?_
  refine J.nmg hw ?_
  clear hw
  intro g30 hw
  exact (rX2_init_33 htr hdd hw)
set_option maxRecDepth 100000 in
def wX2_init (g : List jC) (c : Nat) (n : Nat) (h : Nat) (Q : List jC → Prop) : Prop :=
  (∃ fs6 : List Value, g[h]? = some (.inr (1, fs6)) ∧ jn ≤ h ∧ 8 < fs6.length ∧ (∀ g6 : List jC, g6 = g.set h (.inr (1, fs6.set 8 (.int (1 : Int32)))) → (¬ (8 : Int32) < 0 ∧ ∃ N12 c12 n12, (8 : Int32).toNatClampNeg = N12 ∧ N12 * 4 ≤ 536870912 ∧ c = c12 + 1 ∧ n = n12 + N12 ∧ (∀ q12, q12 = g6.length → (∀ g12 : List jC, g12 = g6 ++ [.inl (0, N12, .inl (fun _ => 0))] → (∃ fs14 : List Value, g12[h]? = some (.inr (1, fs14)) ∧ jn ≤ h ∧ 9 < fs14.length ∧ (∀ g14 : List jC, g14 = g12.set h (.inr (1, fs14.set 9 (.ref q12))) → wX2_init_17 h Q g14 c12 n12)))))))
set_option maxRecDepth 100000 in
theorem mX2_init {G : jG} {l : Launch} {d : Nat} (htr : l.stackTraces = false) (hdd : 1 ≤ d) {g : List jC} {c : Nat} {n : Nat} {h : Nat} {Q : List jC → Prop} (hw : wX2_init g c n h Q) : JM G l MX2_init d c n [.ref h] g (jWn Q) jNo := by
  refine JM.intro (by decide) rfl htr (Nat.le_of_ble_eq_true rfl) ?_
  show J G l MX2_init d c n 0 [(0, .ref h)] [] g _ _
  unfold wX2_init at hw
  refine J.aload_n 0 dX2_init_0 rfl ?_
  refine J.objInit dX2_init_1 q200 q193 q194 (by omega) (Nat.le_of_ble_eq_true rfl) ?_
  refine J.aload_n 0 dX2_init_4 rfl ?_
  refine J.iconst (v := (1 : Int32)) dX2_init_5 (by decide) ?_
  obtain ⟨fs6, hk6, hn6, hl6, hw⟩ := hw
  refine J.putf (C := RX2) (T0 := TX2) (N := 22) 8 dX2_init_6 hn6 hk6 rfl in_X2 tyX2 tyX2_ok nmX2 (by decide) q221 rfl rfl (fun _ => ⟨rfl, rfl⟩) hl6 ?_
  refine J.nmg hw ?_
  clear hw
  intro g6 hw
  refine J.aload_n 0 dX2_init_9 rfl ?_
  refine J.bipush (v := (8 : Int32)) dX2_init_10 (by decide) ?_
  obtain ⟨h012, N12, c12, n12, hN12, hb12, rfl, rfl, hw⟩ := hw
  refine J.newaI N12 dX2_init_12 h012 hN12 hb12 ?_
  refine J.nmr hw ?_
  clear hw
  intro q12 hw
  refine J.nmg hw ?_
  clear hw
  intro g12 hw
  obtain ⟨fs14, hk14, hn14, hl14, hw⟩ := hw
  refine J.putfF (C := RX2) (T0 := TX2) (N := 22) 9 dX2_init_14 hn14 hk14 rfl in_X2 tyX2 tyX2_ok nmX2 (by decide) q223 rfl rfl rfl rfl (fun _ => ⟨rfl, rfl⟩) hl14 ?_
  refine J.nmg hw ?_
  clear hw
  intro g14 hw
  exact (rX2_init_17 htr hdd hw)
-- VisitingHours$Reader.<init>()V
abbrev MX3_init : jM := (yX3_init, cX3_init, 1, none, [])
def wX3_init (g : List jC) (c : Nat) (n : Nat) (h : Nat) (Q : List jC → Prop) : Prop :=
  (¬ (400 : Int32) < 0 ∧ ∃ N8 c8 n8, (400 : Int32).toNatClampNeg = N8 ∧ N8 * 1 ≤ 536870912 ∧ c = c8 + 1 ∧ n = n8 + N8 ∧ (∀ q8, q8 = g.length → (∀ g8 : List jC, g8 = g ++ [.inl (1, N8, .inl (fun _ => 0))] → (∃ fs10 : List Value, g8[h]? = some (.inr (2, fs10)) ∧ jn ≤ h ∧ 0 < fs10.length ∧ (∀ g10 : List jC, g10 = g8.set h (.inr (2, fs10.set 0 (.ref q8))) → (∃ fs15 : List Value, g10[h]? = some (.inr (2, fs15)) ∧ jn ≤ h ∧ 5 < fs15.length ∧ (∀ g15 : List jC, g15 = g10.set h (.inr (2, fs15.set 5 (.int (-1 : Int32)))) → Q g15)))))))
theorem mX3_init {G : jG} {l : Launch} {d : Nat} (htr : l.stackTraces = false) (hdd : 1 ≤ d) {g : List jC} {c : Nat} {n : Nat} {h : Nat} {Q : List jC → Prop} (hw : wX3_init g c n h Q) : JM G l MX3_init d c n [.ref h] g (jWn Q) jNo := by
  refine JM.intro (by decide) rfl htr (Nat.le_of_ble_eq_true rfl) ?_
  show J G l MX3_init d c n 0 [(0, .ref h)] [] g _ _
  unfold wX3_init at hw
  refine J.aload_n 0 dX3_init_0 rfl ?_
  refine J.objInit dX3_init_1 q302 q193 q194 (by omega) (Nat.le_of_ble_eq_true rfl) ?_
  refine J.aload_n 0 dX3_init_4 rfl ?_
  refine J.sipush (v := (400 : Int32)) dX3_init_5 (by decide) ?_
  obtain ⟨h08, N8, c8, n8, hN8, hb8, rfl, rfl, hw⟩ := hw
  refine J.newaB N8 dX3_init_8 h08 hN8 hb8 ?_
  refine J.nmr hw ?_
  clear hw
  intro q8 hw
  refine J.nmg hw ?_
  clear hw
  intro g8 hw
  obtain ⟨fs10, hk10, hn10, hl10, hw⟩ := hw
  refine J.putfF (C := RX3) (T0 := TX3) (N := 7) 0 dX3_init_10 hn10 hk10 rfl in_X3 tyX3 tyX3_ok nmX3 (by decide) q303 rfl rfl rfl rfl (fun _ => ⟨rfl, rfl⟩) hl10 ?_
  refine J.nmg hw ?_
  clear hw
  intro g10 hw
  refine J.aload_n 0 dX3_init_13 rfl ?_
  refine J.iconst (v := (-1 : Int32)) dX3_init_14 (by decide) ?_
  obtain ⟨fs15, hk15, hn15, hl15, hw⟩ := hw
  refine J.putf (C := RX3) (T0 := TX3) (N := 7) 5 dX3_init_15 hn15 hk15 rfl in_X3 tyX3 tyX3_ok nmX3 (by decide) q312 rfl rfl (fun _ => ⟨rfl, rfl⟩) hl15 ?_
  refine J.nmg hw ?_
  clear hw
  intro g15 hw
  exact J.vret rfl dX3_init_18 ⟨rfl, hw⟩
-- VisitingHours$Scene.<init>()V
abbrev MX4_init : jM := (yX4_init, cX4_init, 1, none, [])
def wX4_init (g : List jC) (h : Nat) (Q : Prop) : Prop :=
  Q
theorem mX4_init {G : jG} {l : Launch} {d : Nat} (htr : l.stackTraces = false) (hdd : 1 ≤ d) {g : List jC} {h : Nat} {Q : Prop} (hw : wX4_init g h Q) : JM G l MX4_init d 0 0 [.ref h] g (jRv g Q) jNo := by
  refine JM.intro (by decide) rfl htr (Nat.le_of_ble_eq_true rfl) ?_
  show J G l MX4_init d 0 0 0 [(0, .ref h)] [] g _ _
  unfold wX4_init at hw
  refine J.aload_n 0 dX4_init_0 rfl ?_
  refine J.objInit dX4_init_1 q336 q193 q194 (by omega) (Nat.le_of_ble_eq_true rfl) ?_
  exact J.vret rfl dX4_init_4 ⟨rfl, rfl, hw⟩
-- VisitingHours$Pairs.<init>(LVisitingHours;)V
abbrev MX5_init : jM := (yX5_init, cX5_init, 2, none, [])
def wX5_init (g : List jC) (c : Nat) (n : Nat) (h : Nat) (a1 : Nat) (Q : List jC → Prop) : Prop :=
  (∃ fs2 : List Value, g[h]? = some (.inr (4, fs2)) ∧ jn ≤ h ∧ 6 < fs2.length ∧ (∀ g2 : List jC, g2 = g.set h (.inr (4, fs2.set 6 (.ref a1))) → (¬ (8 : Int32) < 0 ∧ ∃ N12 c12 n12, (8 : Int32).toNatClampNeg = N12 ∧ N12 * 4 ≤ 536870912 ∧ c = c12 + 1 ∧ n = n12 + N12 ∧ (∀ q12, q12 = g2.length → (∀ g12 : List jC, g12 = g2 ++ [.inl (0, N12, .inl (fun _ => 0))] → (∃ fs14 : List Value, g12[h]? = some (.inr (4, fs14)) ∧ jn ≤ h ∧ 0 < fs14.length ∧ (∀ g14 : List jC, g14 = g12.set h (.inr (4, fs14.set 0 (.ref q12))) → (¬ (8 : Int32) < 0 ∧ ∃ N20 c20 n20, (8 : Int32).toNatClampNeg = N20 ∧ N20 * 4 ≤ 536870912 ∧ c12 = c20 + 1 ∧ n12 = n20 + N20 ∧ (∀ q20, q20 = g14.length → (∀ g20 : List jC, g20 = g14 ++ [.inl (0, N20, .inl (fun _ => 0))] → (∃ fs22 : List Value, g20[h]? = some (.inr (4, fs22)) ∧ jn ≤ h ∧ 1 < fs22.length ∧ (∀ g22 : List jC, g22 = g20.set h (.inr (4, fs22.set 1 (.ref q20))) → (¬ (8 : Int32) < 0 ∧ ∃ N28 c28 n28, (8 : Int32).toNatClampNeg = N28 ∧ N28 * 4 ≤ 536870912 ∧ c20 = c28 + 1 ∧ n20 = n28 + N28 ∧ (∀ q28, q28 = g22.length → (∀ g28 : List jC, g28 = g22 ++ [.inl (0, N28, .inl (fun _ => 0))] → (∃ fs30 : List Value, g28[h]? = some (.inr (4, fs30)) ∧ jn ≤ h ∧ 2 < fs30.length ∧ (∀ g30 : List jC, g30 = g28.set h (.inr (4, fs30.set 2 (.ref q28))) → (¬ (8 : Int32) < 0 ∧ ∃ N36 c36 n36, (8 : Int32).toNatClampNeg = N36 ∧ N36 * 4 ≤ 536870912 ∧ c28 = c36 + 1 ∧ n28 = n36 + N36 ∧ (∀ q36, q36 = g30.length → (∀ g36 : List jC, g36 = g30 ++ [.inl (0, N36, .inl (fun _ => 0))] → (∃ fs38 : List Value, g36[h]? = some (.inr (4, fs38)) ∧ jn ≤ h ∧ 3 < fs38.length ∧ (∀ g38 : List jC, g38 = g36.set h (.inr (4, fs38.set 3 (.ref q36))) → (¬ (8 : Int32) < 0 ∧ ∃ N44 c44 n44, (8 : Int32).toNatClampNeg = N44 ∧ N44 * 4 ≤ 536870912 ∧ c36 = c44 + 1 ∧ n36 = n44 + N44 ∧ (∀ q44, q44 = g38.length → (∀ g44 : List jC, g44 = g38 ++ [.inl (0, N44, .inl (fun _ => 0))] → (∃ fs46 : List Value, g44[h]? = some (.inr (4, fs46)) ∧ jn ≤ h ∧ 4 < fs46.length ∧ (∀ g46 : List jC, g46 = g44.set h (.inr (4, fs46.set 4 (.ref q44))) → Q g46)))))))))))))))))))))))))))
theorem mX5_init {G : jG} {l : Launch} {d : Nat} (htr : l.stackTraces = false) (hdd : 1 ≤ d) {g : List jC} {c : Nat} {n : Nat} {h : Nat} {a1 : Nat} {Q : List jC → Prop} (hw : wX5_init g c n h a1 Q) : JM G l MX5_init d c n [.ref h, .ref a1] g (jWn Q) jNo := by
  refine JM.intro (by decide) rfl htr (Nat.le_of_ble_eq_true rfl) ?_
  show J G l MX5_init d c n 0 [(0, .ref h), (1, .ref a1)] [] g _ _
  unfold wX5_init at hw
  refine J.aload_n 0 dX5_init_0 rfl ?_
  refine J.aload_n 1 dX5_init_1 rfl ?_
  obtain ⟨fs2, hk2, hn2, hl2, hw⟩ := hw
  refine J.putfF (C := RX5) (T0 := TX5) (N := 7) 6 dX5_init_2 hn2 hk2 rfl in_X5 tyX5 tyX5_ok nmX5 (by decide) q416 rfl rfl rfl rfl (fun _ => ⟨rfl, rfl⟩) hl2 ?_
  refine J.nmg hw ?_
  clear hw
  intro g2 hw
  refine J.aload_n 0 dX5_init_5 rfl ?_
  refine J.objInit dX5_init_6 q407 q193 q194 (by omega) (Nat.le_of_ble_eq_true rfl) ?_
  refine J.aload_n 0 dX5_init_9 rfl ?_
  refine J.bipush (v := (8 : Int32)) dX5_init_10 (by decide) ?_
  obtain ⟨h012, N12, c12, n12, hN12, hb12, rfl, rfl, hw⟩ := hw
  refine J.newaI N12 dX5_init_12 h012 hN12 hb12 ?_
  refine J.nmr hw ?_
  clear hw
  intro q12 hw
  refine J.nmg hw ?_
  clear hw
  intro g12 hw
  obtain ⟨fs14, hk14, hn14, hl14, hw⟩ := hw
  refine J.putfF (C := RX5) (T0 := TX5) (N := 7) 0 dX5_init_14 hn14 hk14 rfl in_X5 tyX5 tyX5_ok nmX5 (by decide) q408 rfl rfl rfl rfl (fun _ => ⟨rfl, rfl⟩) hl14 ?_
  refine J.nmg hw ?_
  clear hw
  intro g14 hw
  refine J.aload_n 0 dX5_init_17 rfl ?_
  refine J.bipush (v := (8 : Int32)) dX5_init_18 (by decide) ?_
  obtain ⟨h020, N20, c20, n20, hN20, hb20, rfl, rfl, hw⟩ := hw
  refine J.newaI N20 dX5_init_20 h020 hN20 hb20 ?_
  refine J.nmr hw ?_
  clear hw
  intro q20 hw
  refine J.nmg hw ?_
  clear hw
  intro g20 hw
  obtain ⟨fs22, hk22, hn22, hl22, hw⟩ := hw
  refine J.putfF (C := RX5) (T0 := TX5) (N := 7) 1 dX5_init_22 hn22 hk22 rfl in_X5 tyX5 tyX5_ok nmX5 (by decide) q410 rfl rfl rfl rfl (fun _ => ⟨rfl, rfl⟩) hl22 ?_
  refine J.nmg hw ?_
  clear hw
  intro g22 hw
  refine J.aload_n 0 dX5_init_25 rfl ?_
  refine J.bipush (v := (8 : Int32)) dX5_init_26 (by decide) ?_
  obtain ⟨h028, N28, c28, n28, hN28, hb28, rfl, rfl, hw⟩ := hw
  refine J.newaI N28 dX5_init_28 h028 hN28 hb28 ?_
  refine J.nmr hw ?_
  clear hw
  intro q28 hw
  refine J.nmg hw ?_
  clear hw
  intro g28 hw
  obtain ⟨fs30, hk30, hn30, hl30, hw⟩ := hw
  refine J.putfF (C := RX5) (T0 := TX5) (N := 7) 2 dX5_init_30 hn30 hk30 rfl in_X5 tyX5 tyX5_ok nmX5 (by decide) q412 rfl rfl rfl rfl (fun _ => ⟨rfl, rfl⟩) hl30 ?_
  refine J.nmg hw ?_
  clear hw
  intro g30 hw
  refine J.aload_n 0 dX5_init_33 rfl ?_
  refine J.bipush (v := (8 : Int32)) dX5_init_34 (by decide) ?_
  obtain ⟨h036, N36, c36, n36, hN36, hb36, rfl, rfl, hw⟩ := hw
  refine J.newaI N36 dX5_init_36 h036 hN36 hb36 ?_
  refine J.nmr hw ?_
  clear hw
  intro q36 hw
  refine J.nmg hw ?_
  clear hw
  intro g36 hw
  obtain ⟨fs38, hk38, hn38, hl38, hw⟩ := hw
  refine J.putfF (C := RX5) (T0 := TX5) (N := 7) 3 dX5_init_38 hn38 hk38 rfl in_X5 tyX5 tyX5_ok nmX5 (by decide) q413 rfl rfl rfl rfl (fun _ => ⟨rfl, rfl⟩) hl38 ?_
  refine J.nmg hw ?_
  clear hw
  intro g38 hw
  refine J.aload_n 0 dX5_init_41 rfl ?_
  refine J.bipush (v := (8 : Int32)) dX5_init_42 (by decide) ?_
  obtain ⟨h044, N44, c44, n44, hN44, hb44, rfl, rfl, hw⟩ := hw
  refine J.newaI N44 dX5_init_44 h044 hN44 hb44 ?_
  refine J.nmr hw ?_
  clear hw
  intro q44 hw
  refine J.nmg hw ?_
  clear hw
  intro g44 hw
  obtain ⟨fs46, hk46, hn46, hl46, hw⟩ := hw
  refine J.putfF (C := RX5) (T0 := TX5) (N := 7) 4 dX5_init_46 hn46 hk46 rfl in_X5 tyX5 tyX5_ok nmX5 (by decide) q414 rfl rfl rfl rfl (fun _ => ⟨rfl, rfl⟩) hl46 ?_
  refine J.nmg hw ?_
  clear hw
  intro g46 hw
  exact J.vret rfl dX5_init_49 ⟨rfl, hw⟩
theorem kiX1_9 {G : jG} {l : Launch} {M : jM} {d c n pc : Nat} {lv : List (Nat × Value)} {rest : List Value} {g : List jC} {post : Option Value → List jC → Prop} {xp : String → List jC → Prop} (hM : M.1.cls = RX1) (htr : l.stackTraces = false) {h : Nat} {c1 n1 cq nq : Nat} {Q : List jC → Prop} (hd : decode M.2.1 pc = .ok (.invokespecial 9, 3)) (hdd : 1 + 1 ≤ d) (hw8 : (rest.map fun v => v.category).sum ≤ 8) (hw : wX2_init g c1 n1 h Q) (hcc : c1 + c ≤ cq ∧ n1 + n ≤ nq) (kk : ∀ g', Q g' → J G l M d c n (pc + 3) lv rest g' post xp) : J G l M d cq nq pc lv (.ref h :: rest) g post xp :=
  J.callIN (M' := MX2_init) (As := []) (hcw := lw_meth q199) (hlk := by rw [hM]; exact nw197) (hini := q145) (hin := q198) (hret := rfl) (mX2_init htr (Nat.le_refl _) hw) hd rfl rfl ⟨by decide, by decide, by show _ = some 0; decide +kernel⟩ hw8 ⟨hdd, by decide⟩ hcc (fun r9 g9 h9 => by obtain ⟨rfl, h⟩ := h9; exact kk g9 h) jNo.x
theorem kiX1_24 {G : jG} {l : Launch} {M : jM} {d c n pc : Nat} {lv : List (Nat × Value)} {rest : List Value} {g : List jC} {post : Option Value → List jC → Prop} {xp : String → List jC → Prop} (hM : M.1.cls = RX1) (htr : l.stackTraces = false) {h : Nat} {c1 n1 cq nq : Nat} {Q : List jC → Prop} (hd : decode M.2.1 pc = .ok (.invokespecial 24, 3)) (hdd : 1 + 1 ≤ d) (hw8 : (rest.map fun v => v.category).sum ≤ 8) (hw : wX3_init g c1 n1 h Q) (hcc : c1 + c ≤ cq ∧ n1 + n ≤ nq) (kk : ∀ g', Q g' → J G l M d c n (pc + 3) lv rest g' post xp) : J G l M d cq nq pc lv (.ref h :: rest) g post xp :=
  J.callIN (M' := MX3_init) (As := []) (hcw := lw_meth q301) (hlk := by rw [hM]; exact nw299) (hini := q146) (hin := q300) (hret := rfl) (mX3_init htr (Nat.le_refl _) hw) hd rfl rfl ⟨by decide, by decide, by show _ = some 0; decide +kernel⟩ hw8 ⟨hdd, by decide⟩ hcc (fun r9 g9 h9 => by obtain ⟨rfl, h⟩ := h9; exact kk g9 h) jNo.x
theorem kiX1_31 {G : jG} {l : Launch} {M : jM} {d c n pc : Nat} {lv : List (Nat × Value)} {rest : List Value} {g : List jC} {post : Option Value → List jC → Prop} {xp : String → List jC → Prop} (hM : M.1.cls = RX1) (htr : l.stackTraces = false) {h : Nat} {Q : Prop} (hd : decode M.2.1 pc = .ok (.invokespecial 31, 3)) (hdd : 1 + 1 ≤ d) (hw8 : (rest.map fun v => v.category).sum ≤ 8) (hw : wX4_init g h Q) (kk : Q → J G l M d c n (pc + 3) lv rest g post xp) : J G l M d c n pc lv (.ref h :: rest) g post xp :=
  J.callIN (M' := MX4_init) (As := []) (hcw := lw_meth q335) (hlk := by rw [hM]; exact nw333) (hini := q147) (hin := q334) (hret := rfl) (mX4_init htr (Nat.le_refl _) hw) hd rfl rfl ⟨by decide, by decide, by show _ = some 0; decide +kernel⟩ hw8 ⟨hdd, by decide⟩ jcc0 (fun r9 g9 h9 => by obtain ⟨rfl, rfl, h⟩ := h9; exact kk h) jNo.x
theorem kiX1_41 {G : jG} {l : Launch} {M : jM} {d c n pc : Nat} {lv : List (Nat × Value)} {rest : List Value} {g : List jC} {post : Option Value → List jC → Prop} {xp : String → List jC → Prop} (hM : M.1.cls = RX1) (htr : l.stackTraces = false) {h : Nat} {Q : List jC → Prop} (hd : decode M.2.1 pc = .ok (.invokespecial 41, 3)) (hdd : 3 + 1 ≤ d) (hw8 : (rest.map fun v => v.category).sum ≤ 8) (hw : wJ2_init g h Q) (kk : ∀ g', Q g' → J G l M d c n (pc + 3) lv rest g' post xp) : J G l M d c n pc lv (.ref h :: rest) g post xp :=
  J.callI (M' := MJ2_init) (As := []) (hcw := lw_meth q380) (hini := q150) (hlk := by rw [hM]; exact q378) (hin := q379) (hret := rfl) (mJ2_init htr (Nat.le_refl _) hw) hd rfl rfl ⟨by decide, by decide, by show _ = some 0; decide +kernel⟩ hw8 ⟨hdd, by decide⟩ jcc0 (fun r9 g9 h9 => by obtain ⟨rfl, h⟩ := h9; exact kk g9 h) jNo.x
theorem kiX1_48 {G : jG} {l : Launch} {M : jM} {d c n pc : Nat} {lv : List (Nat × Value)} {rest : List Value} {g : List jC} {post : Option Value → List jC → Prop} {xp : String → List jC → Prop} (hM : M.1.cls = RX1) (htr : l.stackTraces = false) {h : Nat} {a1 : Nat} {c1 n1 cq nq : Nat} {Q : List jC → Prop} (hd : decode M.2.1 pc = .ok (.invokespecial 48, 3)) (hdd : 1 + 1 ≤ d) (hw8 : (rest.map fun v => v.category).sum ≤ 8) (hw : wX5_init g c1 n1 h a1 Q) (hcc : c1 + c ≤ cq ∧ n1 + n ≤ nq) (kk : ∀ g', Q g' → J G l M d c n (pc + 3) lv rest g' post xp) : J G l M d cq nq pc lv (.ref a1 :: .ref h :: rest) g post xp :=
  J.callIN (M' := MX5_init) (As := [.ref a1]) (hcw := lw_meth q406) (hlk := by rw [hM]; exact nw404) (hini := q151) (hin := q405) (hret := rfl) (mX5_init htr (Nat.le_refl _) hw) hd rfl rfl ⟨by decide, by decide, by show _ = some 1; decide +kernel⟩ hw8 ⟨hdd, by decide⟩ hcc (fun r9 g9 h9 => by obtain ⟨rfl, h⟩ := h9; exact kk g9 h) jNo.x
-- VisitingHours.<init>()V
abbrev MX1_init : jM := (yX1_init, cX1_init, 1, none, [])
set_option maxRecDepth 100000 in
def wX1_init_138 (h : Nat) (Q : List jC → Prop) (g : List jC) (c : Nat) (n : Nat) : Prop :=
  (∃ c139 n139, c = c139 + 1 ∧ n = n139 + 22 ∧ (∀ q139, q139 = g.length → (∀ g139 : List jC, g139 = g ++ [.inr (1, [.int 0, .int 0, .int 0, .int 0, .int 0, .int 0, .int 0, .int 0, .int 0, .null, .null, .null, .null, .null, .null, .null, .null, .null, .null, .null, .null, .int 0])] → (∃ c1143 n1143 c2143 n2143 : Nat, c1143 + c2143 ≤ c139 ∧ n1143 + n2143 ≤ n139 ∧ wX2_init g139 c1143 n1143 q139 (fun g143 => (∃ fs146 : List Value, g143[h]? = some (.inr (0, fs146)) ∧ jn ≤ h ∧ 15 < fs146.length ∧ (∀ g146 : List jC, g146 = g143.set h (.inr (0, fs146.set 15 (.ref q139))) → Q g146)))))))
set_option maxRecDepth 100000 in
theorem rX1_init_138 {G : jG} {l : Launch} {d : Nat} (htr : l.stackTraces = false) (hdd : 4 ≤ d) {h : Nat} {Q : List jC → Prop} {g : List jC} {c : Nat} {n : Nat} (hw : wX1_init_138 h Q g c n) : J G l MX1_init d c n 138 [(0, .ref h)] [] g (jWn Q) jNo := by
  unfold wX1_init_138 at hw
  refine J.aload_n 0 dX1_init_138 rfl ?_
  obtain ⟨c139, n139, rfl, rfl, hw⟩ := hw
  refine J.new (C := RX2) (T0 := TX2) (N := 22) [.int 0, .int 0, .int 0, .int 0, .int 0, .int 0, .int 0, .int 0, .int 0, .null, .null, .null, .null, .null, .null, .null, .null, .null, .null, .null, .null, .int 0] dX1_init_139 (ci := 1) rfl in_X2 tyX2 tyX2_ok q195 q196 q145 rfl (fun _ => rfl) ?_
  refine J.nmr hw ?_
  clear hw
  intro q139 hw
  refine J.nmg hw ?_
  clear hw
  intro g139 hw
  refine J.dup dX1_init_142 rfl ?_
  obtain ⟨c1143, n1143, c2143, n2143, hc143, hd143, hw⟩ := hw
  refine kiX1_9 rfl htr dX1_init_143 (by omega) (Nat.le_of_ble_eq_true rfl) hw ⟨hc143, hd143⟩ ?_
  clear hw
  intro g143 hw
  obtain ⟨fs146, hk146, hn146, hl146, hw⟩ := hw
  refine J.putfF (C := RX1) (T0 := TX1) (N := 16) 15 dX1_init_146 hn146 hk146 rfl in_X1 tyX1 tyX1_ok nmX1 (by decide) q448 rfl rfl rfl rfl (fun _ => ⟨rfl, rfl⟩) hl146 ?_
  refine J.nmg hw ?_
  clear hw
  intro g146 hw
  exact J.vret rfl dX1_init_149 ⟨rfl, hw⟩
set_option maxRecDepth 100000 in
def wX1_init_129 (h : Nat) (Q : List jC → Prop) (g : List jC) (c : Nat) (n : Nat) : Prop :=
  (¬ (2304 : Int32) < 0 ∧ ∃ N133 c133 n133, (2304 : Int32).toNatClampNeg = N133 ∧ N133 * 4 ≤ 536870912 ∧ c = c133 + 1 ∧ n = n133 + N133 ∧ (∀ q133, q133 = g.length → (∀ g133 : List jC, g133 = g ++ [.inl (0, N133, .inl (fun _ => 0))] → (∃ fs135 : List Value, g133[h]? = some (.inr (0, fs135)) ∧ jn ≤ h ∧ 14 < fs135.length ∧ (∀ g135 : List jC, g135 = g133.set h (.inr (0, fs135.set 14 (.ref q133))) → wX1_init_138 h Q g135 c133 n133)))))
set_option maxRecDepth 100000 in
theorem rX1_init_129 {G : jG} {l : Launch} {d : Nat} (htr : l.stackTraces = false) (hdd : 4 ≤ d) {h : Nat} {Q : List jC → Prop} {g : List jC} {c : Nat} {n : Nat} (hw : wX1_init_129 h Q g c n) : J G l MX1_init d c n 129 [(0, .ref h)] [] g (jWn Q) jNo := by
  unfold wX1_init_129 at hw
  refine J.aload_n 0 dX1_init_129 rfl ?_
  refine J.sipush (v := (2304 : Int32)) dX1_init_130 (by decide) ?_
  obtain ⟨h0133, N133, c133, n133, hN133, hb133, rfl, rfl, hw⟩ := hw
  refine J.newaI N133 dX1_init_133 h0133 hN133 hb133 ?_
  refine J.nmr hw ?_
  clear hw
  intro q133 hw
  refine J.nmg hw ?_
  clear hw
  intro g133 hw
  obtain ⟨fs135, hk135, hn135, hl135, hw⟩ := hw
  refine J.putfF (C := RX1) (T0 := TX1) (N := 16) 14 dX1_init_135 hn135 hk135 rfl in_X1 tyX1 tyX1_ok nmX1 (by decide) q447 rfl rfl rfl rfl (fun _ => ⟨rfl, rfl⟩) hl135 ?_
  refine J.nmg hw ?_
  clear hw
  intro g135 hw
  exact (rX1_init_138 htr hdd hw)
set_option maxRecDepth 100000 in
def wX1_init_120 (h : Nat) (Q : List jC → Prop) (g : List jC) (c : Nat) (n : Nat) : Prop :=
  (¬ (729 : Int32) < 0 ∧ ∃ N124 c124 n124, (729 : Int32).toNatClampNeg = N124 ∧ N124 * 4 ≤ 536870912 ∧ c = c124 + 1 ∧ n = n124 + N124 ∧ (∀ q124, q124 = g.length → (∀ g124 : List jC, g124 = g ++ [.inl (0, N124, .inl (fun _ => 0))] → (∃ fs126 : List Value, g124[h]? = some (.inr (0, fs126)) ∧ jn ≤ h ∧ 13 < fs126.length ∧ (∀ g126 : List jC, g126 = g124.set h (.inr (0, fs126.set 13 (.ref q124))) → wX1_init_129 h Q g126 c124 n124)))))
set_option maxRecDepth 100000 in
theorem rX1_init_120 {G : jG} {l : Launch} {d : Nat} (htr : l.stackTraces = false) (hdd : 4 ≤ d) {h : Nat} {Q : List jC → Prop} {g : List jC} {c : Nat} {n : Nat} (hw : wX1_init_120 h Q g c n) : J G l MX1_init d c n 120 [(0, .ref h)] [] g (jWn Q) jNo := by
  unfold wX1_init_120 at hw
  refine J.aload_n 0 dX1_init_120 rfl ?_
  refine J.sipush (v := (729 : Int32)) dX1_init_121 (by decide) ?_
  obtain ⟨h0124, N124, c124, n124, hN124, hb124, rfl, rfl, hw⟩ := hw
  refine J.newaI N124 dX1_init_124 h0124 hN124 hb124 ?_
  refine J.nmr hw ?_
  clear hw
  intro q124 hw
  refine J.nmg hw ?_
  clear hw
  intro g124 hw
  obtain ⟨fs126, hk126, hn126, hl126, hw⟩ := hw
  refine J.putfF (C := RX1) (T0 := TX1) (N := 16) 13 dX1_init_126 hn126 hk126 rfl in_X1 tyX1 tyX1_ok nmX1 (by decide) q446 rfl rfl rfl rfl (fun _ => ⟨rfl, rfl⟩) hl126 ?_
  refine J.nmg hw ?_
  clear hw
  intro g126 hw
  exact (rX1_init_129 htr hdd hw)
set_option maxRecDepth 100000 in
def wX1_init_111 (h : Nat) (Q : List jC → Prop) (g : List jC) (c : Nat) (n : Nat) : Prop :=
  (¬ (729 : Int32) < 0 ∧ ∃ N115 c115 n115, (729 : Int32).toNatClampNeg = N115 ∧ N115 * 4 ≤ 536870912 ∧ c = c115 + 1 ∧ n = n115 + N115 ∧ (∀ q115, q115 = g.length → (∀ g115 : List jC, g115 = g ++ [.inl (0, N115, .inl (fun _ => 0))] → (∃ fs117 : List Value, g115[h]? = some (.inr (0, fs117)) ∧ jn ≤ h ∧ 12 < fs117.length ∧ (∀ g117 : List jC, g117 = g115.set h (.inr (0, fs117.set 12 (.ref q115))) → wX1_init_120 h Q g117 c115 n115)))))
set_option maxRecDepth 100000 in
theorem rX1_init_111 {G : jG} {l : Launch} {d : Nat} (htr : l.stackTraces = false) (hdd : 4 ≤ d) {h : Nat} {Q : List jC → Prop} {g : List jC} {c : Nat} {n : Nat} (hw : wX1_init_111 h Q g c n) : J G l MX1_init d c n 111 [(0, .ref h)] [] g (jWn Q) jNo := by
  unfold wX1_init_111 at hw
  refine J.aload_n 0 dX1_init_111 rfl ?_
  refine J.sipush (v := (729 : Int32)) dX1_init_112 (by decide) ?_
  obtain ⟨h0115, N115, c115, n115, hN115, hb115, rfl, rfl, hw⟩ := hw
  refine J.newaI N115 dX1_init_115 h0115 hN115 hb115 ?_
  refine J.nmr hw ?_
  clear hw
  intro q115 hw
  refine J.nmg hw ?_
  clear hw
  intro g115 hw
  obtain ⟨fs117, hk117, hn117, hl117, hw⟩ := hw
  refine J.putfF (C := RX1) (T0 := TX1) (N := 16) 12 dX1_init_117 hn117 hk117 rfl in_X1 tyX1 tyX1_ok nmX1 (by decide) q445 rfl rfl rfl rfl (fun _ => ⟨rfl, rfl⟩) hl117 ?_
  refine J.nmg hw ?_
  clear hw
  intro g117 hw
  exact (rX1_init_120 htr hdd hw)
set_option maxRecDepth 100000 in
def wX1_init_102 (h : Nat) (Q : List jC → Prop) (g : List jC) (c : Nat) (n : Nat) : Prop :=
  (¬ (2304 : Int32) < 0 ∧ ∃ N106 c106 n106, (2304 : Int32).toNatClampNeg = N106 ∧ N106 * 4 ≤ 536870912 ∧ c = c106 + 1 ∧ n = n106 + N106 ∧ (∀ q106, q106 = g.length → (∀ g106 : List jC, g106 = g ++ [.inl (0, N106, .inl (fun _ => 0))] → (∃ fs108 : List Value, g106[h]? = some (.inr (0, fs108)) ∧ jn ≤ h ∧ 11 < fs108.length ∧ (∀ g108 : List jC, g108 = g106.set h (.inr (0, fs108.set 11 (.ref q106))) → wX1_init_111 h Q g108 c106 n106)))))
set_option maxRecDepth 100000 in
theorem rX1_init_102 {G : jG} {l : Launch} {d : Nat} (htr : l.stackTraces = false) (hdd : 4 ≤ d) {h : Nat} {Q : List jC → Prop} {g : List jC} {c : Nat} {n : Nat} (hw : wX1_init_102 h Q g c n) : J G l MX1_init d c n 102 [(0, .ref h)] [] g (jWn Q) jNo := by
  unfold wX1_init_102 at hw
  refine J.aload_n 0 dX1_init_102 rfl ?_
  refine J.sipush (v := (2304 : Int32)) dX1_init_103 (by decide) ?_
  obtain ⟨h0106, N106, c106, n106, hN106, hb106, rfl, rfl, hw⟩ := hw
  refine J.newaI N106 dX1_init_106 h0106 hN106 hb106 ?_
  refine J.nmr hw ?_
  clear hw
  intro q106 hw
  refine J.nmg hw ?_
  clear hw
  intro g106 hw
  obtain ⟨fs108, hk108, hn108, hl108, hw⟩ := hw
  refine J.putfF (C := RX1) (T0 := TX1) (N := 16) 11 dX1_init_108 hn108 hk108 rfl in_X1 tyX1 tyX1_ok nmX1 (by decide) q444 rfl rfl rfl rfl (fun _ => ⟨rfl, rfl⟩) hl108 ?_
  refine J.nmg hw ?_
  clear hw
  intro g108 hw
  exact (rX1_init_111 htr hdd hw)
set_option maxRecDepth 100000 in
def wX1_init_93 (h : Nat) (Q : List jC → Prop) (g : List jC) (c : Nat) (n : Nat) : Prop :=
  (¬ (256 : Int32) < 0 ∧ ∃ N97 c97 n97, (256 : Int32).toNatClampNeg = N97 ∧ N97 * 4 ≤ 536870912 ∧ c = c97 + 1 ∧ n = n97 + N97 ∧ (∀ q97, q97 = g.length → (∀ g97 : List jC, g97 = g ++ [.inl (0, N97, .inl (fun _ => 0))] → (∃ fs99 : List Value, g97[h]? = some (.inr (0, fs99)) ∧ jn ≤ h ∧ 10 < fs99.length ∧ (∀ g99 : List jC, g99 = g97.set h (.inr (0, fs99.set 10 (.ref q97))) → wX1_init_102 h Q g99 c97 n97)))))
set_option maxRecDepth 100000 in
theorem rX1_init_93 {G : jG} {l : Launch} {d : Nat} (htr : l.stackTraces = false) (hdd : 4 ≤ d) {h : Nat} {Q : List jC → Prop} {g : List jC} {c : Nat} {n : Nat} (hw : wX1_init_93 h Q g c n) : J G l MX1_init d c n 93 [(0, .ref h)] [] g (jWn Q) jNo := by
  unfold wX1_init_93 at hw
  refine J.aload_n 0 dX1_init_93 rfl ?_
  refine J.sipush (v := (256 : Int32)) dX1_init_94 (by decide) ?_
  obtain ⟨h097, N97, c97, n97, hN97, hb97, rfl, rfl, hw⟩ := hw
  refine J.newaI N97 dX1_init_97 h097 hN97 hb97 ?_
  refine J.nmr hw ?_
  clear hw
  intro q97 hw
  refine J.nmg hw ?_
  clear hw
  intro g97 hw
  obtain ⟨fs99, hk99, hn99, hl99, hw⟩ := hw
  refine J.putfF (C := RX1) (T0 := TX1) (N := 16) 10 dX1_init_99 hn99 hk99 rfl in_X1 tyX1 tyX1_ok nmX1 (by decide) q443 rfl rfl rfl rfl (fun _ => ⟨rfl, rfl⟩) hl99 ?_
  refine J.nmg hw ?_
  clear hw
  intro g99 hw
  exact (rX1_init_102 htr hdd hw)
set_option maxRecDepth 100000 in
def wX1_init_81 (h : Nat) (Q : List jC → Prop) (g : List jC) (c : Nat) (n : Nat) : Prop :=
  (∃ c82 n82, c = c82 + 1 ∧ n = n82 + 7 ∧ (∀ q82, q82 = g.length → (∀ g82 : List jC, g82 = g ++ [.inr (4, [.null, .null, .null, .null, .null, .int 0, .null])] → (∃ c187 n187 c287 n287 : Nat, c187 + c287 ≤ c82 ∧ n187 + n287 ≤ n82 ∧ wX5_init g82 c187 n187 q82 h (fun g87 => (∃ fs90 : List Value, g87[h]? = some (.inr (0, fs90)) ∧ jn ≤ h ∧ 9 < fs90.length ∧ (∀ g90 : List jC, g90 = g87.set h (.inr (0, fs90.set 9 (.ref q82))) → wX1_init_93 h Q g90 c287 n287)))))))
set_option maxRecDepth 100000 in
theorem rX1_init_81 {G : jG} {l : Launch} {d : Nat} (htr : l.stackTraces = false) (hdd : 4 ≤ d) {h : Nat} {Q : List jC → Prop} {g : List jC} {c : Nat} {n : Nat} (hw : wX1_init_81 h Q g c n) : J G l MX1_init d c n 81 [(0, .ref h)] [] g (jWn Q) jNo := by
  unfold wX1_init_81 at hw
  refine J.aload_n 0 dX1_init_81 rfl ?_
  obtain ⟨c82, n82, rfl, rfl, hw⟩ := hw
  refine J.new (C := RX5) (T0 := TX5) (N := 7) [.null, .null, .null, .null, .null, .int 0, .null] dX1_init_82 (ci := 4) rfl in_X5 tyX5 tyX5_ok q402 q403 q151 rfl (fun _ => rfl) ?_
  refine J.nmr hw ?_
  clear hw
  intro q82 hw
  refine J.nmg hw ?_
  clear hw
  intro g82 hw
  refine J.dup dX1_init_85 rfl ?_
  refine J.aload_n 0 dX1_init_86 rfl ?_
  obtain ⟨c187, n187, c287, n287, hc87, hd87, hw⟩ := hw
  refine kiX1_48 rfl htr dX1_init_87 (by omega) (Nat.le_of_ble_eq_true rfl) hw ⟨hc87, hd87⟩ ?_
  clear hw
  intro g87 hw
  obtain ⟨fs90, hk90, hn90, hl90, hw⟩ := hw
  refine J.putfF (C := RX1) (T0 := TX1) (N := 16) 9 dX1_init_90 hn90 hk90 rfl in_X1 tyX1 tyX1_ok nmX1 (by decide) q442 rfl rfl rfl rfl (fun _ => ⟨rfl, rfl⟩) hl90 ?_
  refine J.nmg hw ?_
  clear hw
  intro g90 hw
  exact (rX1_init_93 htr hdd hw)
set_option maxRecDepth 100000 in
def wX1_init_70 (h : Nat) (Q : List jC → Prop) (g : List jC) (c : Nat) (n : Nat) : Prop :=
  (∃ c71 n71, c = c71 + 1 ∧ n = n71 + 3 ∧ (∀ q71, q71 = g.length → (∀ g71 : List jC, g71 = g ++ [.inr (15, [.int 0, .null, .int 0])] → wJ2_init g71 q71 (fun g75 => (∃ fs78 : List Value, g75[h]? = some (.inr (0, fs78)) ∧ jn ≤ h ∧ 8 < fs78.length ∧ (∀ g78 : List jC, g78 = g75.set h (.inr (0, fs78.set 8 (.ref q71))) → wX1_init_81 h Q g78 c71 n71))))))
set_option maxRecDepth 100000 in
theorem rX1_init_70 {G : jG} {l : Launch} {d : Nat} (htr : l.stackTraces = false) (hdd : 4 ≤ d) {h : Nat} {Q : List jC → Prop} {g : List jC} {c : Nat} {n : Nat} (hw : wX1_init_70 h Q g c n) : J G l MX1_init d c n 70 [(0, .ref h)] [] g (jWn Q) jNo := by
  unfold wX1_init_70 at hw
  refine J.aload_n 0 dX1_init_70 rfl ?_
  obtain ⟨c71, n71, rfl, rfl, hw⟩ := hw
  refine J.new (C := RJ2) (T0 := TJ2) (N := 3) [.int 0, .null, .int 0] dX1_init_71 (ci := 15) rfl in_J2 tyJ2 tyJ2_ok q376 q377 q150 rfl (fun _ => rfl) ?_
  refine J.nmr hw ?_
  clear hw
  intro q71 hw
  refine J.nmg hw ?_
  clear hw
  intro g71 hw
  refine J.dup dX1_init_74 rfl ?_
  refine kiX1_41 rfl htr dX1_init_75 (by omega) (Nat.le_of_ble_eq_true rfl) hw ?_
  clear hw
  intro g75 hw
  obtain ⟨fs78, hk78, hn78, hl78, hw⟩ := hw
  refine J.putfF (C := RX1) (T0 := TX1) (N := 16) 8 dX1_init_78 hn78 hk78 rfl in_X1 tyX1 tyX1_ok nmX1 (by decide) q441 rfl rfl rfl rfl (fun _ => ⟨rfl, rfl⟩) hl78 ?_
  refine J.nmg hw ?_
  clear hw
  intro g78 hw
  exact (rX1_init_81 htr hdd hw)
set_option maxRecDepth 100000 in
def wX1_init_59 (h : Nat) (Q : List jC → Prop) (g : List jC) (c : Nat) (n : Nat) : Prop :=
  (∃ c60 n60, c = c60 + 1 ∧ n = n60 + 22 ∧ (∀ q60, q60 = g.length → (∀ g60 : List jC, g60 = g ++ [.inr (1, [.int 0, .int 0, .int 0, .int 0, .int 0, .int 0, .int 0, .int 0, .int 0, .null, .null, .null, .null, .null, .null, .null, .null, .null, .null, .null, .null, .int 0])] → (∃ c164 n164 c264 n264 : Nat, c164 + c264 ≤ c60 ∧ n164 + n264 ≤ n60 ∧ wX2_init g60 c164 n164 q60 (fun g64 => (∃ fs67 : List Value, g64[h]? = some (.inr (0, fs67)) ∧ jn ≤ h ∧ 7 < fs67.length ∧ (∀ g67 : List jC, g67 = g64.set h (.inr (0, fs67.set 7 (.ref q60))) → wX1_init_70 h Q g67 c264 n264)))))))
set_option maxRecDepth 100000 in
theorem rX1_init_59 {G : jG} {l : Launch} {d : Nat} (htr : l.stackTraces = false) (hdd : 4 ≤ d) {h : Nat} {Q : List jC → Prop} {g : List jC} {c : Nat} {n : Nat} (hw : wX1_init_59 h Q g c n) : J G l MX1_init d c n 59 [(0, .ref h)] [] g (jWn Q) jNo := by
  unfold wX1_init_59 at hw
  refine J.aload_n 0 dX1_init_59 rfl ?_
  obtain ⟨c60, n60, rfl, rfl, hw⟩ := hw
  refine J.new (C := RX2) (T0 := TX2) (N := 22) [.int 0, .int 0, .int 0, .int 0, .int 0, .int 0, .int 0, .int 0, .int 0, .null, .null, .null, .null, .null, .null, .null, .null, .null, .null, .null, .null, .int 0] dX1_init_60 (ci := 1) rfl in_X2 tyX2 tyX2_ok q195 q196 q145 rfl (fun _ => rfl) ?_
  refine J.nmr hw ?_
  clear hw
  intro q60 hw
  refine J.nmg hw ?_
  clear hw
  intro g60 hw
  refine J.dup dX1_init_63 rfl ?_
  obtain ⟨c164, n164, c264, n264, hc64, hd64, hw⟩ := hw
  refine kiX1_9 rfl htr dX1_init_64 (by omega) (Nat.le_of_ble_eq_true rfl) hw ⟨hc64, hd64⟩ ?_
  clear hw
  intro g64 hw
  obtain ⟨fs67, hk67, hn67, hl67, hw⟩ := hw
  refine J.putfF (C := RX1) (T0 := TX1) (N := 16) 7 dX1_init_67 hn67 hk67 rfl in_X1 tyX1 tyX1_ok nmX1 (by decide) q440 rfl rfl rfl rfl (fun _ => ⟨rfl, rfl⟩) hl67 ?_
  refine J.nmg hw ?_
  clear hw
  intro g67 hw
  exact (rX1_init_70 htr hdd hw)
set_option maxRecDepth 100000 in
def wX1_init_48 (h : Nat) (Q : List jC → Prop) (g : List jC) (c : Nat) (n : Nat) : Prop :=
  (∃ c49 n49, c = c49 + 1 ∧ n = n49 + 9 ∧ (∀ q49, q49 = g.length → (∀ g49 : List jC, g49 = g ++ [.inr (3, [.int 0, .int 0, .int 0, .int 0, .int 0, .int 0, .int 0, .int 0, .int 0])] → wX4_init g49 q49 ((∃ fs56 : List Value, g49[h]? = some (.inr (0, fs56)) ∧ jn ≤ h ∧ 5 < fs56.length ∧ (∀ g56 : List jC, g56 = g49.set h (.inr (0, fs56.set 5 (.ref q49))) → wX1_init_59 h Q g56 c49 n49))))))
set_option maxRecDepth 100000 in
theorem rX1_init_48 {G : jG} {l : Launch} {d : Nat} (htr : l.stackTraces = false) (hdd : 4 ≤ d) {h : Nat} {Q : List jC → Prop} {g : List jC} {c : Nat} {n : Nat} (hw : wX1_init_48 h Q g c n) : J G l MX1_init d c n 48 [(0, .ref h)] [] g (jWn Q) jNo := by
  unfold wX1_init_48 at hw
  refine J.aload_n 0 dX1_init_48 rfl ?_
  obtain ⟨c49, n49, rfl, rfl, hw⟩ := hw
  refine J.new (C := RX4) (T0 := TX4) (N := 9) [.int 0, .int 0, .int 0, .int 0, .int 0, .int 0, .int 0, .int 0, .int 0] dX1_init_49 (ci := 3) rfl in_X4 tyX4 tyX4_ok q331 q332 q147 rfl (fun _ => rfl) ?_
  refine J.nmr hw ?_
  clear hw
  intro q49 hw
  refine J.nmg hw ?_
  clear hw
  intro g49 hw
  refine J.dup dX1_init_52 rfl ?_
  refine kiX1_31 rfl htr dX1_init_53 (by omega) (Nat.le_of_ble_eq_true rfl) hw ?_
  clear hw
  intro hw
  obtain ⟨fs56, hk56, hn56, hl56, hw⟩ := hw
  refine J.putfF (C := RX1) (T0 := TX1) (N := 16) 5 dX1_init_56 hn56 hk56 rfl in_X1 tyX1 tyX1_ok nmX1 (by decide) q438 rfl rfl rfl rfl (fun _ => ⟨rfl, rfl⟩) hl56 ?_
  refine J.nmg hw ?_
  clear hw
  intro g56 hw
  exact (rX1_init_59 htr hdd hw)
set_option maxRecDepth 100000 in
def wX1_init_37 (h : Nat) (Q : List jC → Prop) (g : List jC) (c : Nat) (n : Nat) : Prop :=
  (∃ c38 n38, c = c38 + 1 ∧ n = n38 + 7 ∧ (∀ q38, q38 = g.length → (∀ g38 : List jC, g38 = g ++ [.inr (2, [.null, .int 0, .int 0, .int 0, .int 0, .int 0, .int 0])] → (∃ c142 n142 c242 n242 : Nat, c142 + c242 ≤ c38 ∧ n142 + n242 ≤ n38 ∧ wX3_init g38 c142 n142 q38 (fun g42 => (∃ fs45 : List Value, g42[h]? = some (.inr (0, fs45)) ∧ jn ≤ h ∧ 4 < fs45.length ∧ (∀ g45 : List jC, g45 = g42.set h (.inr (0, fs45.set 4 (.ref q38))) → wX1_init_48 h Q g45 c242 n242)))))))
set_option maxRecDepth 100000 in
theorem rX1_init_37 {G : jG} {l : Launch} {d : Nat} (htr : l.stackTraces = false) (hdd : 4 ≤ d) {h : Nat} {Q : List jC → Prop} {g : List jC} {c : Nat} {n : Nat} (hw : wX1_init_37 h Q g c n) : J G l MX1_init d c n 37 [(0, .ref h)] [] g (jWn Q) jNo := by
  unfold wX1_init_37 at hw
  refine J.aload_n 0 dX1_init_37 rfl ?_
  obtain ⟨c38, n38, rfl, rfl, hw⟩ := hw
  refine J.new (C := RX3) (T0 := TX3) (N := 7) [.null, .int 0, .int 0, .int 0, .int 0, .int 0, .int 0] dX1_init_38 (ci := 2) rfl in_X3 tyX3 tyX3_ok q297 q298 q146 rfl (fun _ => rfl) ?_
  refine J.nmr hw ?_
  clear hw
  intro q38 hw
  refine J.nmg hw ?_
  clear hw
  intro g38 hw
  refine J.dup dX1_init_41 rfl ?_
  obtain ⟨c142, n142, c242, n242, hc42, hd42, hw⟩ := hw
  refine kiX1_24 rfl htr dX1_init_42 (by omega) (Nat.le_of_ble_eq_true rfl) hw ⟨hc42, hd42⟩ ?_
  clear hw
  intro g42 hw
  obtain ⟨fs45, hk45, hn45, hl45, hw⟩ := hw
  refine J.putfF (C := RX1) (T0 := TX1) (N := 16) 4 dX1_init_45 hn45 hk45 rfl in_X1 tyX1 tyX1_ok nmX1 (by decide) q437 rfl rfl rfl rfl (fun _ => ⟨rfl, rfl⟩) hl45 ?_
  refine J.nmg hw ?_
  clear hw
  intro g45 hw
  exact (rX1_init_48 htr hdd hw)
set_option maxRecDepth 100000 in
def wX1_init_26 (h : Nat) (Q : List jC → Prop) (g : List jC) (c : Nat) (n : Nat) : Prop :=
  (∃ c27 n27, c = c27 + 1 ∧ n = n27 + 22 ∧ (∀ q27, q27 = g.length → (∀ g27 : List jC, g27 = g ++ [.inr (1, [.int 0, .int 0, .int 0, .int 0, .int 0, .int 0, .int 0, .int 0, .int 0, .null, .null, .null, .null, .null, .null, .null, .null, .null, .null, .null, .null, .int 0])] → (∃ c131 n131 c231 n231 : Nat, c131 + c231 ≤ c27 ∧ n131 + n231 ≤ n27 ∧ wX2_init g27 c131 n131 q27 (fun g31 => (∃ fs34 : List Value, g31[h]? = some (.inr (0, fs34)) ∧ jn ≤ h ∧ 2 < fs34.length ∧ (∀ g34 : List jC, g34 = g31.set h (.inr (0, fs34.set 2 (.ref q27))) → wX1_init_37 h Q g34 c231 n231)))))))
set_option maxRecDepth 100000 in
theorem rX1_init_26 {G : jG} {l : Launch} {d : Nat} (htr : l.stackTraces = false) (hdd : 4 ≤ d) {h : Nat} {Q : List jC → Prop} {g : List jC} {c : Nat} {n : Nat} (hw : wX1_init_26 h Q g c n) : J G l MX1_init d c n 26 [(0, .ref h)] [] g (jWn Q) jNo := by
  unfold wX1_init_26 at hw
  refine J.aload_n 0 dX1_init_26 rfl ?_
  obtain ⟨c27, n27, rfl, rfl, hw⟩ := hw
  refine J.new (C := RX2) (T0 := TX2) (N := 22) [.int 0, .int 0, .int 0, .int 0, .int 0, .int 0, .int 0, .int 0, .int 0, .null, .null, .null, .null, .null, .null, .null, .null, .null, .null, .null, .null, .int 0] dX1_init_27 (ci := 1) rfl in_X2 tyX2 tyX2_ok q195 q196 q145 rfl (fun _ => rfl) ?_
  refine J.nmr hw ?_
  clear hw
  intro q27 hw
  refine J.nmg hw ?_
  clear hw
  intro g27 hw
  refine J.dup dX1_init_30 rfl ?_
  obtain ⟨c131, n131, c231, n231, hc31, hd31, hw⟩ := hw
  refine kiX1_9 rfl htr dX1_init_31 (by omega) (Nat.le_of_ble_eq_true rfl) hw ⟨hc31, hd31⟩ ?_
  clear hw
  intro g31 hw
  obtain ⟨fs34, hk34, hn34, hl34, hw⟩ := hw
  refine J.putfF (C := RX1) (T0 := TX1) (N := 16) 2 dX1_init_34 hn34 hk34 rfl in_X1 tyX1 tyX1_ok nmX1 (by decide) q435 rfl rfl rfl rfl (fun _ => ⟨rfl, rfl⟩) hl34 ?_
  refine J.nmg hw ?_
  clear hw
  intro g34 hw
  exact (rX1_init_37 htr hdd hw)
set_option maxRecDepth 100000 in
def wX1_init_15 (h : Nat) (Q : List jC → Prop) (g : List jC) (c : Nat) (n : Nat) : Prop :=
  (∃ c16 n16, c = c16 + 1 ∧ n = n16 + 22 ∧ (∀ q16, q16 = g.length → (∀ g16 : List jC, g16 = g ++ [.inr (1, [.int 0, .int 0, .int 0, .int 0, .int 0, .int 0, .int 0, .int 0, .int 0, .null, .null, .null, .null, .null, .null, .null, .null, .null, .null, .null, .null, .int 0])] → (∃ c120 n120 c220 n220 : Nat, c120 + c220 ≤ c16 ∧ n120 + n220 ≤ n16 ∧ wX2_init g16 c120 n120 q16 (fun g20 => (∃ fs23 : List Value, g20[h]? = some (.inr (0, fs23)) ∧ jn ≤ h ∧ 1 < fs23.length ∧ (∀ g23 : List jC, g23 = g20.set h (.inr (0, fs23.set 1 (.ref q16))) → wX1_init_26 h Q g23 c220 n220)))))))
set_option maxRecDepth 100000 in
theorem rX1_init_15 {G : jG} {l : Launch} {d : Nat} (htr : l.stackTraces = false) (hdd : 4 ≤ d) {h : Nat} {Q : List jC → Prop} {g : List jC} {c : Nat} {n : Nat} (hw : wX1_init_15 h Q g c n) : J G l MX1_init d c n 15 [(0, .ref h)] [] g (jWn Q) jNo := by
  unfold wX1_init_15 at hw
  refine J.aload_n 0 dX1_init_15 rfl ?_
  obtain ⟨c16, n16, rfl, rfl, hw⟩ := hw
  refine J.new (C := RX2) (T0 := TX2) (N := 22) [.int 0, .int 0, .int 0, .int 0, .int 0, .int 0, .int 0, .int 0, .int 0, .null, .null, .null, .null, .null, .null, .null, .null, .null, .null, .null, .null, .int 0] dX1_init_16 (ci := 1) rfl in_X2 tyX2 tyX2_ok q195 q196 q145 rfl (fun _ => rfl) ?_
  refine J.nmr hw ?_
  clear hw
  intro q16 hw
  refine J.nmg hw ?_
  clear hw
  intro g16 hw
  refine J.dup dX1_init_19 rfl ?_
  obtain ⟨c120, n120, c220, n220, hc20, hd20, hw⟩ := hw
  refine kiX1_9 rfl htr dX1_init_20 (by omega) (Nat.le_of_ble_eq_true rfl) hw ⟨hc20, hd20⟩ ?_
  clear hw
  intro g20 hw
  obtain ⟨fs23, hk23, hn23, hl23, hw⟩ := hw
  refine J.putfF (C := RX1) (T0 := TX1) (N := 16) 1 dX1_init_23 hn23 hk23 rfl in_X1 tyX1 tyX1_ok nmX1 (by decide) q434 rfl rfl rfl rfl (fun _ => ⟨rfl, rfl⟩) hl23 ?_
  refine J.nmg hw ?_
  clear hw
  intro g23 hw
  exact (rX1_init_26 htr hdd hw)
set_option maxRecDepth 100000 in
def wX1_init (g : List jC) (c : Nat) (n : Nat) (h : Nat) (Q : List jC → Prop) : Prop :=
  (∃ c5 n5, c = c5 + 1 ∧ n = n5 + 22 ∧ (∀ q5, q5 = g.length → (∀ g5 : List jC, g5 = g ++ [.inr (1, [.int 0, .int 0, .int 0, .int 0, .int 0, .int 0, .int 0, .int 0, .int 0, .null, .null, .null, .null, .null, .null, .null, .null, .null, .null, .null, .null, .int 0])] → (∃ c19 n19 c29 n29 : Nat, c19 + c29 ≤ c5 ∧ n19 + n29 ≤ n5 ∧ wX2_init g5 c19 n19 q5 (fun g9 => (∃ fs12 : List Value, g9[h]? = some (.inr (0, fs12)) ∧ jn ≤ h ∧ 0 < fs12.length ∧ (∀ g12 : List jC, g12 = g9.set h (.inr (0, fs12.set 0 (.ref q5))) → wX1_init_15 h Q g12 c29 n29)))))))
set_option maxRecDepth 100000 in
theorem mX1_init {G : jG} {l : Launch} {d : Nat} (htr : l.stackTraces = false) (hdd : 4 ≤ d) {g : List jC} {c : Nat} {n : Nat} {h : Nat} {Q : List jC → Prop} (hw : wX1_init g c n h Q) : JM G l MX1_init d c n [.ref h] g (jWn Q) jNo := by
  refine JM.intro (by decide) rfl htr (Nat.le_of_ble_eq_true rfl) ?_
  show J G l MX1_init d c n 0 [(0, .ref h)] [] g _ _
  unfold wX1_init at hw
  refine J.aload_n 0 dX1_init_0 rfl ?_
  refine J.objInit dX1_init_1 q192 q193 q194 (by omega) (Nat.le_of_ble_eq_true rfl) ?_
  refine J.aload_n 0 dX1_init_4 rfl ?_
  obtain ⟨c5, n5, rfl, rfl, hw⟩ := hw
  refine J.new (C := RX2) (T0 := TX2) (N := 22) [.int 0, .int 0, .int 0, .int 0, .int 0, .int 0, .int 0, .int 0, .int 0, .null, .null, .null, .null, .null, .null, .null, .null, .null, .null, .null, .null, .int 0] dX1_init_5 (ci := 1) rfl in_X2 tyX2 tyX2_ok q195 q196 q145 rfl (fun _ => rfl) ?_
  refine J.nmr hw ?_
  clear hw
  intro q5 hw
  refine J.nmg hw ?_
  clear hw
  intro g5 hw
  refine J.dup dX1_init_8 rfl ?_
  obtain ⟨c19, n19, c29, n29, hc9, hd9, hw⟩ := hw
  refine kiX1_9 rfl htr dX1_init_9 (by omega) (Nat.le_of_ble_eq_true rfl) hw ⟨hc9, hd9⟩ ?_
  clear hw
  intro g9 hw
  obtain ⟨fs12, hk12, hn12, hl12, hw⟩ := hw
  refine J.putfF (C := RX1) (T0 := TX1) (N := 16) 0 dX1_init_12 hn12 hk12 rfl in_X1 tyX1 tyX1_ok nmX1 (by decide) q432 rfl rfl rfl rfl (fun _ => ⟨rfl, rfl⟩) hl12 ?_
  refine J.nmg hw ?_
  clear hw
  intro g12 hw
  exact (rX1_init_15 htr hdd hw)
-- VisitingHoursModel.<init>()V
abbrev MX6_init : jM := (yX6_init, cX6_init, 2, none, [])
set_option maxRecDepth 100000 in
def wX6_init_139 (h : Nat) (Q : List jC → Prop) : Nat → List jC → Nat → Nat → Int32 → Prop
  | 0, _, _, _, _ => False
  | f + 1, g, c, n, x1 =>
    (((64 : Int32) ≤ x1 → Q g) ∧ (¬ (64 : Int32) ≤ x1 → (∃ fs146 : List Value, g[h]? = some (.inr (5, fs146)) ∧ jn ≤ h ∧ ∃ v146 : Option Nat, fs146[1]? = some (va_rf v146) ∧ (∃ b154_3, v146 = some b154_3 ∧ (∃ (N154 : Nat) (f154 : Nat → Int32), g[b154_3]? = some (.inl (0, N154, .inl f154)) ∧ jn ≤ b154_3 ∧ vp_in ((67 : Int32) + x1) N154 ∧ (∀ g154 : List jC, g154 = g.set b154_3 (.inl (0, N154, .inl (upd f154 ((67 : Int32) + x1).toNatClampNeg (5 : Int32)))) → (∃ fs156 : List Value, g154[h]? = some (.inr (5, fs156)) ∧ jn ≤ h ∧ ∃ v156 : Option Nat, fs156[1]? = some (va_rf v156) ∧ (∃ b165_4, v156 = some b165_4 ∧ (∃ (N165 : Nat) (f165 : Nat → Int32), g154[b165_4]? = some (.inl (0, N165, .inl f165)) ∧ jn ≤ b165_4 ∧ vp_in ((131 : Int32) + x1) N165 ∧ (∀ g165 : List jC, g165 = g154.set b165_4 (.inl (0, N165, .inl (upd f165 ((131 : Int32) + x1).toNatClampNeg (5 : Int32)))) → (∃ fs167 : List Value, g165[h]? = some (.inr (5, fs167)) ∧ jn ≤ h ∧ ∃ v167 : Option Nat, fs167[1]? = some (va_rf v167) ∧ (∃ b176_5, v167 = some b176_5 ∧ (∃ (N176 : Nat) (f176 : Nat → Int32), g165[b176_5]? = some (.inl (0, N176, .inl f176)) ∧ jn ≤ b176_5 ∧ vp_in ((195 : Int32) + x1) N176 ∧ (∀ g176 : List jC, g176 = g165.set b176_5 (.inl (0, N176, .inl (upd f176 ((195 : Int32) + x1).toNatClampNeg (-1 : Int32)))) → (∀ y177 : Int32, y177 = x1 + (1 : Int32) → wX6_init_139 h Q f g176 c n y177)))))))))))))))
set_option maxRecDepth 100000 in
theorem rX6_init_139 {G : jG} {l : Launch} {d : Nat} (htr : l.stackTraces = false) (hdd : 1 ≤ d) {h : Nat} {Q : List jC → Prop} : ∀ (f : Nat) (g : List jC) (c : Nat) (n : Nat) (x1 : Int32), wX6_init_139 h Q f g c n x1 → J G l MX6_init d c n 139 [(0, .ref h), (1, .int x1)] [] g (jWn Q) jNo := by
  intro f
  induction f with
  | zero =>
    intro g c n x1 hw
    rw [wX6_init_139] at hw
    exact hw.elim
  | succ f ih =>
    intro g c n x1 hw
    rw [wX6_init_139] at hw
    refine J.iload_n 1 dX6_init_139 rfl ?_
    refine J.bipush (v := (64 : Int32)) dX6_init_140 (by decide) ?_
    refine J.icmp_ge 183 dX6_init_142 (by decide) ⟨fun c142 => ?_, fun c142 => ?_⟩
    · obtain ⟨hw, -⟩ := hw
      specialize hw c142
      exact J.vret rfl dX6_init_183 ⟨rfl, hw⟩
    · obtain ⟨-, hw⟩ := hw
      specialize hw c142
      refine J.aload_n 0 dX6_init_145 rfl ?_
      obtain ⟨fs146, hk146, hn146, v146, hv146, hw⟩ := hw
      refine J.getf (C := RX6) (T0 := TX6) (N := 28) 1 dX6_init_146 hn146 hk146 rfl in_X6 (by decide) q2129 hv146 ?_
      refine J.bipush (v := (67 : Int32)) dX6_init_149 (by decide) ?_
      refine J.iload_n 1 dX6_init_151 rfl ?_
      refine J.iadd dX6_init_152 ?_
      refine J.iconst (v := (5 : Int32)) dX6_init_153 (by decide) ?_
      obtain ⟨b154_3, rfl, hw⟩ := hw
      obtain ⟨N154, f154, hk154, hn154, hi154, hw⟩ := hw
      refine J.iast dX6_init_154 hn154 hk154 hi154 ?_
      refine J.nmg hw ?_
      clear hw
      intro g154 hw
      refine J.aload_n 0 dX6_init_155 rfl ?_
      obtain ⟨fs156, hk156, hn156, v156, hv156, hw⟩ := hw
      refine J.getf (C := RX6) (T0 := TX6) (N := 28) 1 dX6_init_156 hn156 hk156 rfl in_X6 (by decide) q2129 hv156 ?_
      refine J.sipush (v := (131 : Int32)) dX6_init_159 (by decide) ?_
      refine J.iload_n 1 dX6_init_162 rfl ?_
      refine J.iadd dX6_init_163 ?_
      refine J.iconst (v := (5 : Int32)) dX6_init_164 (by decide) ?_
      obtain ⟨b165_4, rfl, hw⟩ := hw
      obtain ⟨N165, f165, hk165, hn165, hi165, hw⟩ := hw
      refine J.iast dX6_init_165 hn165 hk165 hi165 ?_
      refine J.nmg hw ?_
      clear hw
      intro g165 hw
      refine J.aload_n 0 dX6_init_166 rfl ?_
      obtain ⟨fs167, hk167, hn167, v167, hv167, hw⟩ := hw
      refine J.getf (C := RX6) (T0 := TX6) (N := 28) 1 dX6_init_167 hn167 hk167 rfl in_X6 (by decide) q2129 hv167 ?_
      refine J.sipush (v := (195 : Int32)) dX6_init_170 (by decide) ?_
      refine J.iload_n 1 dX6_init_173 rfl ?_
      refine J.iadd dX6_init_174 ?_
      refine J.iconst (v := (-1 : Int32)) dX6_init_175 (by decide) ?_
      obtain ⟨b176_5, rfl, hw⟩ := hw
      obtain ⟨N176, f176, hk176, hn176, hi176, hw⟩ := hw
      refine J.iast dX6_init_176 hn176 hk176 hi176 ?_
      refine J.nmg hw ?_
      clear hw
      intro g176 hw
      refine J.iincN 1 (K := (1 : Int32)) (lv' := fun y177 => [(1, .int y177), (0, .ref h)]) dX6_init_177 rfl (by decide) (by decide) (fun _ => rfl) hw ?_
      clear hw
      intro y177 hw
      refine J.goto 139 dX6_init_180 (by decide) ?_
      exact J.pick [1, 0] rfl (ih _ _ _ _ hw)
set_option maxRecDepth 100000 in
def wX6_init_122 (h : Nat) (Q : List jC → Prop) (g : List jC) (c : Nat) (n : Nat) : Prop :=
  (∃ fs123 : List Value, g[h]? = some (.inr (5, fs123)) ∧ jn ≤ h ∧ ∃ v123 : Option Nat, fs123[1]? = some (va_rf v123) ∧ (∃ b128_1, v123 = some b128_1 ∧ (∃ (N128 : Nat) (f128 : Nat → Int32), g[b128_1]? = some (.inl (0, N128, .inl f128)) ∧ jn ≤ b128_1 ∧ vp_in (1 : Int32) N128 ∧ (∀ g128 : List jC, g128 = g.set b128_1 (.inl (0, N128, .inl (upd f128 (1 : Int32).toNatClampNeg (-1 : Int32)))) → (∃ fs130 : List Value, g128[h]? = some (.inr (5, fs130)) ∧ jn ≤ h ∧ ∃ v130 : Option Nat, fs130[1]? = some (va_rf v130) ∧ (∃ b136_2, v130 = some b136_2 ∧ (∃ (N136 : Nat) (f136 : Nat → Int32), g128[b136_2]? = some (.inl (0, N136, .inl f136)) ∧ jn ≤ b136_2 ∧ vp_in (10 : Int32) N136 ∧ (∀ g136 : List jC, g136 = g128.set b136_2 (.inl (0, N136, .inl (upd f136 (10 : Int32).toNatClampNeg (1 : Int32)))) → (∃ f9, wX6_init_139 h Q f9 g136 c n (0 : Int32))))))))))
set_option maxRecDepth 100000 in
theorem rX6_init_122 {G : jG} {l : Launch} {d : Nat} (htr : l.stackTraces = false) (hdd : 1 ≤ d) {h : Nat} {Q : List jC → Prop} {g : List jC} {c : Nat} {n : Nat} (hw : wX6_init_122 h Q g c n) : J G l MX6_init d c n 122 [(0, .ref h)] [] g (jWn Q) jNo := by
  unfold wX6_init_122 at hw
  refine J.aload_n 0 dX6_init_122 rfl ?_
  obtain ⟨fs123, hk123, hn123, v123, hv123, hw⟩ := hw
  refine J.getf (C := RX6) (T0 := TX6) (N := 28) 1 dX6_init_123 hn123 hk123 rfl in_X6 (by decide) q2129 hv123 ?_
  refine J.iconst (v := (1 : Int32)) dX6_init_126 (by decide) ?_
  refine J.iconst (v := (-1 : Int32)) dX6_init_127 (by decide) ?_
  obtain ⟨b128_1, rfl, hw⟩ := hw
  obtain ⟨N128, f128, hk128, hn128, hi128, hw⟩ := hw
  refine J.iast dX6_init_128 hn128 hk128 hi128 ?_
  refine J.nmg hw ?_
  clear hw
  intro g128 hw
  refine J.aload_n 0 dX6_init_129 rfl ?_
  obtain ⟨fs130, hk130, hn130, v130, hv130, hw⟩ := hw
  refine J.getf (C := RX6) (T0 := TX6) (N := 28) 1 dX6_init_130 hn130 hk130 rfl in_X6 (by decide) q2129 hv130 ?_
  refine J.bipush (v := (10 : Int32)) dX6_init_133 (by decide) ?_
  refine J.iconst (v := (1 : Int32)) dX6_init_135 (by decide) ?_
  obtain ⟨b136_2, rfl, hw⟩ := hw
  obtain ⟨N136, f136, hk136, hn136, hi136, hw⟩ := hw
  refine J.iast dX6_init_136 hn136 hk136 hi136 ?_
  refine J.nmg hw ?_
  clear hw
  intro g136 hw
  refine J.iconst (v := (0 : Int32)) dX6_init_137 (by decide) ?_
  refine J.istore_n (lv' := [(1, .int (0 : Int32)), (0, .ref h)]) dX6_init_138 (by decide) rfl ?_
  obtain ⟨f9, hw⟩ := hw
  exact J.pick [1, 0] rfl (rX6_init_139 htr hdd f9 _ _ _ _ hw)
set_option maxRecDepth 100000 in
def wX6_init_113 (h : Nat) (Q : List jC → Prop) (g : List jC) (c : Nat) (n : Nat) : Prop :=
  (¬ (2304 : Int32) < 0 ∧ ∃ N117 c117 n117, (2304 : Int32).toNatClampNeg = N117 ∧ N117 * 1 ≤ 536870912 ∧ c = c117 + 1 ∧ n = n117 + N117 ∧ (∀ q117, q117 = g.length → (∀ g117 : List jC, g117 = g ++ [.inl (2, N117, .inl (fun _ => 0))] → (∃ fs119 : List Value, g117[h]? = some (.inr (5, fs119)) ∧ jn ≤ h ∧ 27 < fs119.length ∧ (∀ g119 : List jC, g119 = g117.set h (.inr (5, fs119.set 27 (.ref q117))) → wX6_init_122 h Q g119 c117 n117)))))
set_option maxRecDepth 100000 in
theorem rX6_init_113 {G : jG} {l : Launch} {d : Nat} (htr : l.stackTraces = false) (hdd : 1 ≤ d) {h : Nat} {Q : List jC → Prop} {g : List jC} {c : Nat} {n : Nat} (hw : wX6_init_113 h Q g c n) : J G l MX6_init d c n 113 [(0, .ref h)] [] g (jWn Q) jNo := by
  unfold wX6_init_113 at hw
  refine J.aload_n 0 dX6_init_113 rfl ?_
  refine J.sipush (v := (2304 : Int32)) dX6_init_114 (by decide) ?_
  obtain ⟨h0117, N117, c117, n117, hN117, hb117, rfl, rfl, hw⟩ := hw
  refine J.newaZ N117 dX6_init_117 h0117 hN117 hb117 ?_
  refine J.nmr hw ?_
  clear hw
  intro q117 hw
  refine J.nmg hw ?_
  clear hw
  intro g117 hw
  obtain ⟨fs119, hk119, hn119, hl119, hw⟩ := hw
  refine J.putfF (C := RX6) (T0 := TX6) (N := 28) 27 dX6_init_119 hn119 hk119 rfl in_X6 tyX6 tyX6_ok nmX6 (by decide) q2155 rfl rfl rfl rfl (fun _ => ⟨rfl, rfl⟩) hl119 ?_
  refine J.nmg hw ?_
  clear hw
  intro g119 hw
  exact (rX6_init_122 htr hdd hw)
set_option maxRecDepth 100000 in
def wX6_init_104 (h : Nat) (Q : List jC → Prop) (g : List jC) (c : Nat) (n : Nat) : Prop :=
  (¬ (4096 : Int32) < 0 ∧ ∃ N108 c108 n108, (4096 : Int32).toNatClampNeg = N108 ∧ N108 * 1 ≤ 536870912 ∧ c = c108 + 1 ∧ n = n108 + N108 ∧ (∀ q108, q108 = g.length → (∀ g108 : List jC, g108 = g ++ [.inl (2, N108, .inl (fun _ => 0))] → (∃ fs110 : List Value, g108[h]? = some (.inr (5, fs110)) ∧ jn ≤ h ∧ 26 < fs110.length ∧ (∀ g110 : List jC, g110 = g108.set h (.inr (5, fs110.set 26 (.ref q108))) → wX6_init_113 h Q g110 c108 n108)))))
set_option maxRecDepth 100000 in
theorem rX6_init_104 {G : jG} {l : Launch} {d : Nat} (htr : l.stackTraces = false) (hdd : 1 ≤ d) {h : Nat} {Q : List jC → Prop} {g : List jC} {c : Nat} {n : Nat} (hw : wX6_init_104 h Q g c n) : J G l MX6_init d c n 104 [(0, .ref h)] [] g (jWn Q) jNo := by
  unfold wX6_init_104 at hw
  refine J.aload_n 0 dX6_init_104 rfl ?_
  refine J.sipush (v := (4096 : Int32)) dX6_init_105 (by decide) ?_
  obtain ⟨h0108, N108, c108, n108, hN108, hb108, rfl, rfl, hw⟩ := hw
  refine J.newaZ N108 dX6_init_108 h0108 hN108 hb108 ?_
  refine J.nmr hw ?_
  clear hw
  intro q108 hw
  refine J.nmg hw ?_
  clear hw
  intro g108 hw
  obtain ⟨fs110, hk110, hn110, hl110, hw⟩ := hw
  refine J.putfF (C := RX6) (T0 := TX6) (N := 28) 26 dX6_init_110 hn110 hk110 rfl in_X6 tyX6 tyX6_ok nmX6 (by decide) q2154 rfl rfl rfl rfl (fun _ => ⟨rfl, rfl⟩) hl110 ?_
  refine J.nmg hw ?_
  clear hw
  intro g110 hw
  exact (rX6_init_113 htr hdd hw)
set_option maxRecDepth 100000 in
def wX6_init_95 (h : Nat) (Q : List jC → Prop) (g : List jC) (c : Nat) (n : Nat) : Prop :=
  (¬ (2304 : Int32) < 0 ∧ ∃ N99 c99 n99, (2304 : Int32).toNatClampNeg = N99 ∧ N99 * 4 ≤ 536870912 ∧ c = c99 + 1 ∧ n = n99 + N99 ∧ (∀ q99, q99 = g.length → (∀ g99 : List jC, g99 = g ++ [.inl (0, N99, .inl (fun _ => 0))] → (∃ fs101 : List Value, g99[h]? = some (.inr (5, fs101)) ∧ jn ≤ h ∧ 25 < fs101.length ∧ (∀ g101 : List jC, g101 = g99.set h (.inr (5, fs101.set 25 (.ref q99))) → wX6_init_104 h Q g101 c99 n99)))))
set_option maxRecDepth 100000 in
theorem rX6_init_95 {G : jG} {l : Launch} {d : Nat} (htr : l.stackTraces = false) (hdd : 1 ≤ d) {h : Nat} {Q : List jC → Prop} {g : List jC} {c : Nat} {n : Nat} (hw : wX6_init_95 h Q g c n) : J G l MX6_init d c n 95 [(0, .ref h)] [] g (jWn Q) jNo := by
  unfold wX6_init_95 at hw
  refine J.aload_n 0 dX6_init_95 rfl ?_
  refine J.sipush (v := (2304 : Int32)) dX6_init_96 (by decide) ?_
  obtain ⟨h099, N99, c99, n99, hN99, hb99, rfl, rfl, hw⟩ := hw
  refine J.newaI N99 dX6_init_99 h099 hN99 hb99 ?_
  refine J.nmr hw ?_
  clear hw
  intro q99 hw
  refine J.nmg hw ?_
  clear hw
  intro g99 hw
  obtain ⟨fs101, hk101, hn101, hl101, hw⟩ := hw
  refine J.putfF (C := RX6) (T0 := TX6) (N := 28) 25 dX6_init_101 hn101 hk101 rfl in_X6 tyX6 tyX6_ok nmX6 (by decide) q2153 rfl rfl rfl rfl (fun _ => ⟨rfl, rfl⟩) hl101 ?_
  refine J.nmg hw ?_
  clear hw
  intro g101 hw
  exact (rX6_init_104 htr hdd hw)
set_option maxRecDepth 100000 in
def wX6_init_86 (h : Nat) (Q : List jC → Prop) (g : List jC) (c : Nat) (n : Nat) : Prop :=
  (¬ (256 : Int32) < 0 ∧ ∃ N90 c90 n90, (256 : Int32).toNatClampNeg = N90 ∧ N90 * 4 ≤ 536870912 ∧ c = c90 + 1 ∧ n = n90 + N90 ∧ (∀ q90, q90 = g.length → (∀ g90 : List jC, g90 = g ++ [.inl (0, N90, .inl (fun _ => 0))] → (∃ fs92 : List Value, g90[h]? = some (.inr (5, fs92)) ∧ jn ≤ h ∧ 24 < fs92.length ∧ (∀ g92 : List jC, g92 = g90.set h (.inr (5, fs92.set 24 (.ref q90))) → wX6_init_95 h Q g92 c90 n90)))))
set_option maxRecDepth 100000 in
theorem rX6_init_86 {G : jG} {l : Launch} {d : Nat} (htr : l.stackTraces = false) (hdd : 1 ≤ d) {h : Nat} {Q : List jC → Prop} {g : List jC} {c : Nat} {n : Nat} (hw : wX6_init_86 h Q g c n) : J G l MX6_init d c n 86 [(0, .ref h)] [] g (jWn Q) jNo := by
  unfold wX6_init_86 at hw
  refine J.aload_n 0 dX6_init_86 rfl ?_
  refine J.sipush (v := (256 : Int32)) dX6_init_87 (by decide) ?_
  obtain ⟨h090, N90, c90, n90, hN90, hb90, rfl, rfl, hw⟩ := hw
  refine J.newaI N90 dX6_init_90 h090 hN90 hb90 ?_
  refine J.nmr hw ?_
  clear hw
  intro q90 hw
  refine J.nmg hw ?_
  clear hw
  intro g90 hw
  obtain ⟨fs92, hk92, hn92, hl92, hw⟩ := hw
  refine J.putfF (C := RX6) (T0 := TX6) (N := 28) 24 dX6_init_92 hn92 hk92 rfl in_X6 tyX6 tyX6_ok nmX6 (by decide) q2152 rfl rfl rfl rfl (fun _ => ⟨rfl, rfl⟩) hl92 ?_
  refine J.nmg hw ?_
  clear hw
  intro g92 hw
  exact (rX6_init_95 htr hdd hw)
set_option maxRecDepth 100000 in
def wX6_init_78 (h : Nat) (Q : List jC → Prop) (g : List jC) (c : Nat) (n : Nat) : Prop :=
  (¬ (8 : Int32) < 0 ∧ ∃ N81 c81 n81, (8 : Int32).toNatClampNeg = N81 ∧ N81 * 4 ≤ 536870912 ∧ c = c81 + 1 ∧ n = n81 + N81 ∧ (∀ q81, q81 = g.length → (∀ g81 : List jC, g81 = g ++ [.inl (0, N81, .inl (fun _ => 0))] → (∃ fs83 : List Value, g81[h]? = some (.inr (5, fs83)) ∧ jn ≤ h ∧ 23 < fs83.length ∧ (∀ g83 : List jC, g83 = g81.set h (.inr (5, fs83.set 23 (.ref q81))) → wX6_init_86 h Q g83 c81 n81)))))
set_option maxRecDepth 100000 in
theorem rX6_init_78 {G : jG} {l : Launch} {d : Nat} (htr : l.stackTraces = false) (hdd : 1 ≤ d) {h : Nat} {Q : List jC → Prop} {g : List jC} {c : Nat} {n : Nat} (hw : wX6_init_78 h Q g c n) : J G l MX6_init d c n 78 [(0, .ref h)] [] g (jWn Q) jNo := by
  unfold wX6_init_78 at hw
  refine J.aload_n 0 dX6_init_78 rfl ?_
  refine J.bipush (v := (8 : Int32)) dX6_init_79 (by decide) ?_
  obtain ⟨h081, N81, c81, n81, hN81, hb81, rfl, rfl, hw⟩ := hw
  refine J.newaI N81 dX6_init_81 h081 hN81 hb81 ?_
  refine J.nmr hw ?_
  clear hw
  intro q81 hw
  refine J.nmg hw ?_
  clear hw
  intro g81 hw
  obtain ⟨fs83, hk83, hn83, hl83, hw⟩ := hw
  refine J.putfF (C := RX6) (T0 := TX6) (N := 28) 23 dX6_init_83 hn83 hk83 rfl in_X6 tyX6 tyX6_ok nmX6 (by decide) q2151 rfl rfl rfl rfl (fun _ => ⟨rfl, rfl⟩) hl83 ?_
  refine J.nmg hw ?_
  clear hw
  intro g83 hw
  exact (rX6_init_86 htr hdd hw)
set_option maxRecDepth 100000 in
def wX6_init_70 (h : Nat) (Q : List jC → Prop) (g : List jC) (c : Nat) (n : Nat) : Prop :=
  (¬ (8 : Int32) < 0 ∧ ∃ N73 c73 n73, (8 : Int32).toNatClampNeg = N73 ∧ N73 * 4 ≤ 536870912 ∧ c = c73 + 1 ∧ n = n73 + N73 ∧ (∀ q73, q73 = g.length → (∀ g73 : List jC, g73 = g ++ [.inl (0, N73, .inl (fun _ => 0))] → (∃ fs75 : List Value, g73[h]? = some (.inr (5, fs75)) ∧ jn ≤ h ∧ 22 < fs75.length ∧ (∀ g75 : List jC, g75 = g73.set h (.inr (5, fs75.set 22 (.ref q73))) → wX6_init_78 h Q g75 c73 n73)))))
set_option maxRecDepth 100000 in
theorem rX6_init_70 {G : jG} {l : Launch} {d : Nat} (htr : l.stackTraces = false) (hdd : 1 ≤ d) {h : Nat} {Q : List jC → Prop} {g : List jC} {c : Nat} {n : Nat} (hw : wX6_init_70 h Q g c n) : J G l MX6_init d c n 70 [(0, .ref h)] [] g (jWn Q) jNo := by
  unfold wX6_init_70 at hw
  refine J.aload_n 0 dX6_init_70 rfl ?_
  refine J.bipush (v := (8 : Int32)) dX6_init_71 (by decide) ?_
  obtain ⟨h073, N73, c73, n73, hN73, hb73, rfl, rfl, hw⟩ := hw
  refine J.newaI N73 dX6_init_73 h073 hN73 hb73 ?_
  refine J.nmr hw ?_
  clear hw
  intro q73 hw
  refine J.nmg hw ?_
  clear hw
  intro g73 hw
  obtain ⟨fs75, hk75, hn75, hl75, hw⟩ := hw
  refine J.putfF (C := RX6) (T0 := TX6) (N := 28) 22 dX6_init_75 hn75 hk75 rfl in_X6 tyX6 tyX6_ok nmX6 (by decide) q2150 rfl rfl rfl rfl (fun _ => ⟨rfl, rfl⟩) hl75 ?_
  refine J.nmg hw ?_
  clear hw
  intro g75 hw
  exact (rX6_init_78 htr hdd hw)
set_option maxRecDepth 100000 in
def wX6_init_62 (h : Nat) (Q : List jC → Prop) (g : List jC) (c : Nat) (n : Nat) : Prop :=
  (¬ (8 : Int32) < 0 ∧ ∃ N65 c65 n65, (8 : Int32).toNatClampNeg = N65 ∧ N65 * 4 ≤ 536870912 ∧ c = c65 + 1 ∧ n = n65 + N65 ∧ (∀ q65, q65 = g.length → (∀ g65 : List jC, g65 = g ++ [.inl (0, N65, .inl (fun _ => 0))] → (∃ fs67 : List Value, g65[h]? = some (.inr (5, fs67)) ∧ jn ≤ h ∧ 21 < fs67.length ∧ (∀ g67 : List jC, g67 = g65.set h (.inr (5, fs67.set 21 (.ref q65))) → wX6_init_70 h Q g67 c65 n65)))))
set_option maxRecDepth 100000 in
theorem rX6_init_62 {G : jG} {l : Launch} {d : Nat} (htr : l.stackTraces = false) (hdd : 1 ≤ d) {h : Nat} {Q : List jC → Prop} {g : List jC} {c : Nat} {n : Nat} (hw : wX6_init_62 h Q g c n) : J G l MX6_init d c n 62 [(0, .ref h)] [] g (jWn Q) jNo := by
  unfold wX6_init_62 at hw
  refine J.aload_n 0 dX6_init_62 rfl ?_
  refine J.bipush (v := (8 : Int32)) dX6_init_63 (by decide) ?_
  obtain ⟨h065, N65, c65, n65, hN65, hb65, rfl, rfl, hw⟩ := hw
  refine J.newaI N65 dX6_init_65 h065 hN65 hb65 ?_
  refine J.nmr hw ?_
  clear hw
  intro q65 hw
  refine J.nmg hw ?_
  clear hw
  intro g65 hw
  obtain ⟨fs67, hk67, hn67, hl67, hw⟩ := hw
  refine J.putfF (C := RX6) (T0 := TX6) (N := 28) 21 dX6_init_67 hn67 hk67 rfl in_X6 tyX6 tyX6_ok nmX6 (by decide) q2149 rfl rfl rfl rfl (fun _ => ⟨rfl, rfl⟩) hl67 ?_
  refine J.nmg hw ?_
  clear hw
  intro g67 hw
  exact (rX6_init_70 htr hdd hw)
set_option maxRecDepth 100000 in
def wX6_init_54 (h : Nat) (Q : List jC → Prop) (g : List jC) (c : Nat) (n : Nat) : Prop :=
  (¬ (7 : Int32) < 0 ∧ ∃ N57 c57 n57, (7 : Int32).toNatClampNeg = N57 ∧ N57 * 4 ≤ 536870912 ∧ c = c57 + 1 ∧ n = n57 + N57 ∧ (∀ q57, q57 = g.length → (∀ g57 : List jC, g57 = g ++ [.inl (0, N57, .inl (fun _ => 0))] → (∃ fs59 : List Value, g57[h]? = some (.inr (5, fs59)) ∧ jn ≤ h ∧ 14 < fs59.length ∧ (∀ g59 : List jC, g59 = g57.set h (.inr (5, fs59.set 14 (.ref q57))) → wX6_init_62 h Q g59 c57 n57)))))
set_option maxRecDepth 100000 in
theorem rX6_init_54 {G : jG} {l : Launch} {d : Nat} (htr : l.stackTraces = false) (hdd : 1 ≤ d) {h : Nat} {Q : List jC → Prop} {g : List jC} {c : Nat} {n : Nat} (hw : wX6_init_54 h Q g c n) : J G l MX6_init d c n 54 [(0, .ref h)] [] g (jWn Q) jNo := by
  unfold wX6_init_54 at hw
  refine J.aload_n 0 dX6_init_54 rfl ?_
  refine J.bipush (v := (7 : Int32)) dX6_init_55 (by decide) ?_
  obtain ⟨h057, N57, c57, n57, hN57, hb57, rfl, rfl, hw⟩ := hw
  refine J.newaI N57 dX6_init_57 h057 hN57 hb57 ?_
  refine J.nmr hw ?_
  clear hw
  intro q57 hw
  refine J.nmg hw ?_
  clear hw
  intro g57 hw
  obtain ⟨fs59, hk59, hn59, hl59, hw⟩ := hw
  refine J.putfF (C := RX6) (T0 := TX6) (N := 28) 14 dX6_init_59 hn59 hk59 rfl in_X6 tyX6 tyX6_ok nmX6 (by decide) q2142 rfl rfl rfl rfl (fun _ => ⟨rfl, rfl⟩) hl59 ?_
  refine J.nmg hw ?_
  clear hw
  intro g59 hw
  exact (rX6_init_62 htr hdd hw)
set_option maxRecDepth 100000 in
def wX6_init_49 (h : Nat) (Q : List jC → Prop) (g : List jC) (c : Nat) (n : Nat) : Prop :=
  (∃ fs51 : List Value, g[h]? = some (.inr (5, fs51)) ∧ jn ≤ h ∧ 12 < fs51.length ∧ (∀ g51 : List jC, g51 = g.set h (.inr (5, fs51.set 12 (.int (-1 : Int32)))) → wX6_init_54 h Q g51 c n))
set_option maxRecDepth 100000 in
theorem rX6_init_49 {G : jG} {l : Launch} {d : Nat} (htr : l.stackTraces = false) (hdd : 1 ≤ d) {h : Nat} {Q : List jC → Prop} {g : List jC} {c : Nat} {n : Nat} (hw : wX6_init_49 h Q g c n) : J G l MX6_init d c n 49 [(0, .ref h)] [] g (jWn Q) jNo := by
  unfold wX6_init_49 at hw
  refine J.aload_n 0 dX6_init_49 rfl ?_
  refine J.iconst (v := (-1 : Int32)) dX6_init_50 (by decide) ?_
  obtain ⟨fs51, hk51, hn51, hl51, hw⟩ := hw
  refine J.putf (C := RX6) (T0 := TX6) (N := 28) 12 dX6_init_51 hn51 hk51 rfl in_X6 tyX6 tyX6_ok nmX6 (by decide) q2140 rfl rfl (fun _ => ⟨rfl, rfl⟩) hl51 ?_
  refine J.nmg hw ?_
  clear hw
  intro g51 hw
  exact (rX6_init_54 htr hdd hw)
set_option maxRecDepth 100000 in
def wX6_init_40 (h : Nat) (Q : List jC → Prop) (g : List jC) (c : Nat) (n : Nat) : Prop :=
  (¬ (400 : Int32) < 0 ∧ ∃ N44 c44 n44, (400 : Int32).toNatClampNeg = N44 ∧ N44 * 4 ≤ 536870912 ∧ c = c44 + 1 ∧ n = n44 + N44 ∧ (∀ q44, q44 = g.length → (∀ g44 : List jC, g44 = g ++ [.inl (0, N44, .inl (fun _ => 0))] → (∃ fs46 : List Value, g44[h]? = some (.inr (5, fs46)) ∧ jn ≤ h ∧ 7 < fs46.length ∧ (∀ g46 : List jC, g46 = g44.set h (.inr (5, fs46.set 7 (.ref q44))) → wX6_init_49 h Q g46 c44 n44)))))
set_option maxRecDepth 100000 in
theorem rX6_init_40 {G : jG} {l : Launch} {d : Nat} (htr : l.stackTraces = false) (hdd : 1 ≤ d) {h : Nat} {Q : List jC → Prop} {g : List jC} {c : Nat} {n : Nat} (hw : wX6_init_40 h Q g c n) : J G l MX6_init d c n 40 [(0, .ref h)] [] g (jWn Q) jNo := by
  unfold wX6_init_40 at hw
  refine J.aload_n 0 dX6_init_40 rfl ?_
  refine J.sipush (v := (400 : Int32)) dX6_init_41 (by decide) ?_
  obtain ⟨h044, N44, c44, n44, hN44, hb44, rfl, rfl, hw⟩ := hw
  refine J.newaI N44 dX6_init_44 h044 hN44 hb44 ?_
  refine J.nmr hw ?_
  clear hw
  intro q44 hw
  refine J.nmg hw ?_
  clear hw
  intro g44 hw
  obtain ⟨fs46, hk46, hn46, hl46, hw⟩ := hw
  refine J.putfF (C := RX6) (T0 := TX6) (N := 28) 7 dX6_init_46 hn46 hk46 rfl in_X6 tyX6 tyX6_ok nmX6 (by decide) q2135 rfl rfl rfl rfl (fun _ => ⟨rfl, rfl⟩) hl46 ?_
  refine J.nmg hw ?_
  clear hw
  intro g46 hw
  exact (rX6_init_49 htr hdd hw)
set_option maxRecDepth 100000 in
def wX6_init_31 (h : Nat) (Q : List jC → Prop) (g : List jC) (c : Nat) (n : Nat) : Prop :=
  (¬ (7428 : Int32) < 0 ∧ ∃ N35 c35 n35, (7428 : Int32).toNatClampNeg = N35 ∧ N35 * 4 ≤ 536870912 ∧ c = c35 + 1 ∧ n = n35 + N35 ∧ (∀ q35, q35 = g.length → (∀ g35 : List jC, g35 = g ++ [.inl (0, N35, .inl (fun _ => 0))] → (∃ fs37 : List Value, g35[h]? = some (.inr (5, fs37)) ∧ jn ≤ h ∧ 5 < fs37.length ∧ (∀ g37 : List jC, g37 = g35.set h (.inr (5, fs37.set 5 (.ref q35))) → wX6_init_40 h Q g37 c35 n35)))))
set_option maxRecDepth 100000 in
theorem rX6_init_31 {G : jG} {l : Launch} {d : Nat} (htr : l.stackTraces = false) (hdd : 1 ≤ d) {h : Nat} {Q : List jC → Prop} {g : List jC} {c : Nat} {n : Nat} (hw : wX6_init_31 h Q g c n) : J G l MX6_init d c n 31 [(0, .ref h)] [] g (jWn Q) jNo := by
  unfold wX6_init_31 at hw
  refine J.aload_n 0 dX6_init_31 rfl ?_
  refine J.sipush (v := (7428 : Int32)) dX6_init_32 (by decide) ?_
  obtain ⟨h035, N35, c35, n35, hN35, hb35, rfl, rfl, hw⟩ := hw
  refine J.newaI N35 dX6_init_35 h035 hN35 hb35 ?_
  refine J.nmr hw ?_
  clear hw
  intro q35 hw
  refine J.nmg hw ?_
  clear hw
  intro g35 hw
  obtain ⟨fs37, hk37, hn37, hl37, hw⟩ := hw
  refine J.putfF (C := RX6) (T0 := TX6) (N := 28) 5 dX6_init_37 hn37 hk37 rfl in_X6 tyX6 tyX6_ok nmX6 (by decide) q2133 rfl rfl rfl rfl (fun _ => ⟨rfl, rfl⟩) hl37 ?_
  refine J.nmg hw ?_
  clear hw
  intro g37 hw
  exact (rX6_init_40 htr hdd hw)
set_option maxRecDepth 100000 in
def wX6_init_22 (h : Nat) (Q : List jC → Prop) (g : List jC) (c : Nat) (n : Nat) : Prop :=
  (¬ (619 : Int32) < 0 ∧ ∃ N26 c26 n26, (619 : Int32).toNatClampNeg = N26 ∧ N26 * 4 ≤ 536870912 ∧ c = c26 + 1 ∧ n = n26 + N26 ∧ (∀ q26, q26 = g.length → (∀ g26 : List jC, g26 = g ++ [.inl (0, N26, .inl (fun _ => 0))] → (∃ fs28 : List Value, g26[h]? = some (.inr (5, fs28)) ∧ jn ≤ h ∧ 4 < fs28.length ∧ (∀ g28 : List jC, g28 = g26.set h (.inr (5, fs28.set 4 (.ref q26))) → wX6_init_31 h Q g28 c26 n26)))))
set_option maxRecDepth 100000 in
theorem rX6_init_22 {G : jG} {l : Launch} {d : Nat} (htr : l.stackTraces = false) (hdd : 1 ≤ d) {h : Nat} {Q : List jC → Prop} {g : List jC} {c : Nat} {n : Nat} (hw : wX6_init_22 h Q g c n) : J G l MX6_init d c n 22 [(0, .ref h)] [] g (jWn Q) jNo := by
  unfold wX6_init_22 at hw
  refine J.aload_n 0 dX6_init_22 rfl ?_
  refine J.sipush (v := (619 : Int32)) dX6_init_23 (by decide) ?_
  obtain ⟨h026, N26, c26, n26, hN26, hb26, rfl, rfl, hw⟩ := hw
  refine J.newaI N26 dX6_init_26 h026 hN26 hb26 ?_
  refine J.nmr hw ?_
  clear hw
  intro q26 hw
  refine J.nmg hw ?_
  clear hw
  intro g26 hw
  obtain ⟨fs28, hk28, hn28, hl28, hw⟩ := hw
  refine J.putfF (C := RX6) (T0 := TX6) (N := 28) 4 dX6_init_28 hn28 hk28 rfl in_X6 tyX6 tyX6_ok nmX6 (by decide) q2132 rfl rfl rfl rfl (fun _ => ⟨rfl, rfl⟩) hl28 ?_
  refine J.nmg hw ?_
  clear hw
  intro g28 hw
  exact (rX6_init_31 htr hdd hw)
set_option maxRecDepth 100000 in
def wX6_init_13 (h : Nat) (Q : List jC → Prop) (g : List jC) (c : Nat) (n : Nat) : Prop :=
  (¬ (1019 : Int32) < 0 ∧ ∃ N17 c17 n17, (1019 : Int32).toNatClampNeg = N17 ∧ N17 * 4 ≤ 536870912 ∧ c = c17 + 1 ∧ n = n17 + N17 ∧ (∀ q17, q17 = g.length → (∀ g17 : List jC, g17 = g ++ [.inl (0, N17, .inl (fun _ => 0))] → (∃ fs19 : List Value, g17[h]? = some (.inr (5, fs19)) ∧ jn ≤ h ∧ 2 < fs19.length ∧ (∀ g19 : List jC, g19 = g17.set h (.inr (5, fs19.set 2 (.ref q17))) → wX6_init_22 h Q g19 c17 n17)))))
set_option maxRecDepth 100000 in
theorem rX6_init_13 {G : jG} {l : Launch} {d : Nat} (htr : l.stackTraces = false) (hdd : 1 ≤ d) {h : Nat} {Q : List jC → Prop} {g : List jC} {c : Nat} {n : Nat} (hw : wX6_init_13 h Q g c n) : J G l MX6_init d c n 13 [(0, .ref h)] [] g (jWn Q) jNo := by
  unfold wX6_init_13 at hw
  refine J.aload_n 0 dX6_init_13 rfl ?_
  refine J.sipush (v := (1019 : Int32)) dX6_init_14 (by decide) ?_
  obtain ⟨h017, N17, c17, n17, hN17, hb17, rfl, rfl, hw⟩ := hw
  refine J.newaI N17 dX6_init_17 h017 hN17 hb17 ?_
  refine J.nmr hw ?_
  clear hw
  intro q17 hw
  refine J.nmg hw ?_
  clear hw
  intro g17 hw
  obtain ⟨fs19, hk19, hn19, hl19, hw⟩ := hw
  refine J.putfF (C := RX6) (T0 := TX6) (N := 28) 2 dX6_init_19 hn19 hk19 rfl in_X6 tyX6 tyX6_ok nmX6 (by decide) q2130 rfl rfl rfl rfl (fun _ => ⟨rfl, rfl⟩) hl19 ?_
  refine J.nmg hw ?_
  clear hw
  intro g19 hw
  exact (rX6_init_22 htr hdd hw)
set_option maxRecDepth 100000 in
def wX6_init (g : List jC) (c : Nat) (n : Nat) (h : Nat) (Q : List jC → Prop) : Prop :=
  (¬ (1019 : Int32) < 0 ∧ ∃ N8 c8 n8, (1019 : Int32).toNatClampNeg = N8 ∧ N8 * 4 ≤ 536870912 ∧ c = c8 + 1 ∧ n = n8 + N8 ∧ (∀ q8, q8 = g.length → (∀ g8 : List jC, g8 = g ++ [.inl (0, N8, .inl (fun _ => 0))] → (∃ fs10 : List Value, g8[h]? = some (.inr (5, fs10)) ∧ jn ≤ h ∧ 1 < fs10.length ∧ (∀ g10 : List jC, g10 = g8.set h (.inr (5, fs10.set 1 (.ref q8))) → wX6_init_13 h Q g10 c8 n8)))))
set_option maxRecDepth 100000 in
theorem mX6_init {G : jG} {l : Launch} {d : Nat} (htr : l.stackTraces = false) (hdd : 1 ≤ d) {g : List jC} {c : Nat} {n : Nat} {h : Nat} {Q : List jC → Prop} (hw : wX6_init g c n h Q) : JM G l MX6_init d c n [.ref h] g (jWn Q) jNo := by
  refine JM.intro (by decide) rfl htr (Nat.le_of_ble_eq_true rfl) ?_
  show J G l MX6_init d c n 0 [(0, .ref h)] [] g _ _
  unfold wX6_init at hw
  refine J.aload_n 0 dX6_init_0 rfl ?_
  refine J.objInit dX6_init_1 q2127 q193 q194 (by omega) (Nat.le_of_ble_eq_true rfl) ?_
  refine J.aload_n 0 dX6_init_4 rfl ?_
  refine J.sipush (v := (1019 : Int32)) dX6_init_5 (by decide) ?_
  obtain ⟨h08, N8, c8, n8, hN8, hb8, rfl, rfl, hw⟩ := hw
  refine J.newaI N8 dX6_init_8 h08 hN8 hb8 ?_
  refine J.nmr hw ?_
  clear hw
  intro q8 hw
  refine J.nmg hw ?_
  clear hw
  intro g8 hw
  obtain ⟨fs10, hk10, hn10, hl10, hw⟩ := hw
  refine J.putfF (C := RX6) (T0 := TX6) (N := 28) 1 dX6_init_10 hn10 hk10 rfl in_X6 tyX6 tyX6_ok nmX6 (by decide) q2129 rfl rfl rfl rfl (fun _ => ⟨rfl, rfl⟩) hl10 ?_
  refine J.nmg hw ?_
  clear hw
  intro g10 hw
  exact (rX6_init_13 htr hdd hw)
