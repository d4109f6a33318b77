abbrev MX5_looksOn : jM := (yX5_looksOn, cX5_looksOn, 3, none, [])
theorem gX5_101 {G : jG} {l : Launch} {M : jM} {d c n pc : Nat} {lv : List (Nat × Value)} {st : List Value} {sh : List jH} {V : Nat → Nat → Int32} {R : Nat → Nat → Option Nat} {post : Option Value → List jC → Prop} {xp : String → List jC → Prop} {x : Nat} (hM : M.1.cls = RX5) (hT : jReg shX5 sh x) (hd : decode M.2.1 pc = .ok (.getfield 101, 3)) (kk : J G l M d c n (pc + 3) lv (.int (V x 5) :: st) (mk sh V R) post xp) : J G l M d c n pc lv (.ref x :: st) (mk sh V R) post xp := JV.getf (C := RX5) (T0 := TX5) (N := 7) 5 hd hT.1 (hT.at 0 rfl) rfl in_X5 (by decide) (by rw [hM]; exact q415) rfl rfl kk
theorem pX5_101 {G : jG} {l : Launch} {M : jM} {d c n pc : Nat} {lv : List (Nat × Value)} {st : List Value} {sh : List jH} {V : Nat → Nat → Int32} {R : Nat → Nat → Option Nat} {post : Option Value → List jC → Prop} {xp : String → List jC → Prop} {x : Nat} (hM : M.1.cls = RX5) (hT : jReg shX5 sh x) {x9 : Int32} (hd : decode M.2.1 pc = .ok (.putfield 101, 3)) (kk : J G l M d c n (pc + 3) lv st (mk sh (vset V x 5 x9) R) post xp) : J G l M d c n pc lv (.int x9 :: .ref x :: st) (mk sh V R) post xp := JV.puti (C := RX5) (T0 := TX5) (N := 7) (o := 0) 5 hd hT.1 (hT.at 0 rfl) rfl in_X5 tyX5 tyX5_ok nmX5 (by decide) (by rw [hM]; exact q415) rfl rfl (ji_put x9) rfl kk
theorem kX5_107 {G : jG} {l : Launch} {M : jM} {d c n pc : Nat} {lv : List (Nat × Value)} {rest : List Value} {post : Option Value → List jC → Prop} {xp : String → List jC → Prop} (hM : M.1.cls = RX5) (htr : l.stackTraces = false) {sh : List jH} {V : Nat → Nat → Int32} {R : Nat → Nat → Option Nat} {x : Nat} (hT : jReg shX1 sh x) {Q : Int32 → Prop} (hd : decode M.2.1 pc = .ok (.invokevirtual 107, 3)) (hdd : 2 + 1 ≤ d) (hw8 : (rest.map fun v => v.category).sum ≤ 8) (hw : wX5_rathers x V Q) (kk : ∀ r, Q r → J G l M d c n (pc + 3) lv (.int r :: rest) (mk sh V R) post xp) : J G l M d c n pc lv (.ref (x + 149) :: rest) (mk sh V R) post xp :=
  J.callV (As := []) (hcw := by rw [hM]; exact lw_V q700 q701 q702 q151 q703) (mX5_rathers htr hT hw) hd rfl ⟨4, _, _, mk_at (hT.at 149 rfl), rfl, rfl, fun _ => rfl⟩ ⟨rfl, by decide, by decide, by show _ = some 0; decide +kernel⟩ hw8 ⟨hdd, by decide⟩ jcc0 (fun r9 g9 h9 => by obtain ⟨rfl, r, rfl, h⟩ := h9; exact kk r h) jNo.x
theorem kX5_111 {G : jG} {l : Launch} {M : jM} {d c n pc : Nat} {lv : List (Nat × Value)} {rest : List Value} {post : Option Value → List jC → Prop} {xp : String → List jC → Prop} (hM : M.1.cls = RX5) (htr : l.stackTraces = false) {sh : List jH} {V : Nat → Nat → Int32} {R : Nat → Nat → Option Nat} {x : Nat} (hT : jReg shX1 sh x) {a1 : Int32} {a2 : Int32} {Q : Int32 → Prop} (hd : decode M.2.1 pc = .ok (.invokevirtual 111, 3)) (hdd : 2 + 1 ≤ d) (hw8 : (rest.map fun v => v.category).sum ≤ 8) (hw : wX5_isBetween x V a1 a2 Q) (kk : ∀ r, Q r → J G l M d c n (pc + 3) lv (.int r :: rest) (mk sh V R) post xp) : J G l M d c n pc lv (.int a2 :: .int a1 :: .ref (x + 149) :: rest) (mk sh V R) post xp :=
  J.callV (As := [.int a1, .int a2]) (hcw := by rw [hM]; exact lw_V q704 q706 qs11 q151 q707) (mX5_isBetween htr hT hw) hd rfl ⟨4, _, _, mk_at (hT.at 149 rfl), rfl, rfl, fun _ => rfl⟩ ⟨rfl, by decide, by decide, by show _ = some 2; decide +kernel⟩ hw8 ⟨hdd, by decide⟩ jcc0 (fun r9 g9 h9 => by obtain ⟨rfl, r, rfl, h⟩ := h9; exact kk r h) jNo.x
theorem ksX5_104 {G : jG} {l : Launch} {M : jM} {d c n pc : Nat} {lv : List (Nat × Value)} {rest : List Value} {post : Option Value → List jC → Prop} {xp : String → List jC → Prop} (hM : M.1.cls = RX5) (htr : l.stackTraces = false) {sh : List jH} {V : Nat → Nat → Int32} {R : Nat → Nat → Option Nat} {x : Nat} (hT : jReg shX1 sh x) {REC : (Nat → Nat → Int32) → Int32 → ((Nat → Nat → Int32) → Prop) → Prop} {dr : Nat} (hdr : dr + 1 ≤ d) (hREC : ∀ {V : Nat → Nat → Int32} {a1 : Int32} {Q : (Nat → Nat → Int32) → Prop}, REC V a1 Q → JM G l MX5_looksOn dr 0 0 [.ref (x + 149), .int a1] (mk sh V R) (jWv sh R Q) jNo) {a1 : Int32} {Q : (Nat → Nat → Int32) → Prop} (hd : decode M.2.1 pc = .ok (.invokevirtual 104, 3)) (hw8 : (rest.map fun v => v.category).sum ≤ 8) (hw : REC V a1 Q) (kk : ∀ V', Q V' → J G l M d c n (pc + 3) lv rest (mk sh V' R) post xp) : J G l M d c n pc lv (.int a1 :: .ref (x + 149) :: rest) (mk sh V R) post xp :=
  J.callV (As := [.int a1]) (hcw := by rw [hM]; exact lw_V q696 q698 qs10 q151 q699) (hREC hw) hd rfl ⟨4, _, _, mk_at (hT.at 149 rfl), rfl, rfl, fun _ => rfl⟩ ⟨rfl, by decide, by decide, by show _ = some 1; decide +kernel⟩ hw8 ⟨hdr, by decide⟩ jcc0 (fun r9 g9 h9 => by obtain ⟨V9, rfl, rfl, h⟩ := h9; exact kk V9 h) jNo.x
-- VisitingHours$Pairs.looksOn(I)V
def wX5_looksOn_56 (x : Nat) (REC : (Nat → Nat → Int32) → Int32 → ((Nat → Nat → Int32) → Prop) → Prop) (a1 : Int32) (Q : (Nat → Nat → Int32) → Prop) : Nat → (Nat → Nat → Int32) → Int32 → Prop
  | 0, _, _ => False
  | f + 1, V, x2 =>
    (((V (x + 1) 2) ≤ x2 → Q V) ∧ (¬ (V (x + 1) 2) ≤ x2 → (vp_in x2 8 ∧ ((¬ (V ((x + 149) + 2) x2.toNatClampNeg) = (-1 : Int32) → (∀ y142 : Int32, y142 = x2 + (1 : Int32) → wX5_looksOn_56 x REC a1 Q f V y142)) ∧ ((V ((x + 149) + 2) x2.toNatClampNeg) = (-1 : Int32) → wX2_both (x + 1) V a1 x2 (fun r89 => ((r89 = 0 → (∀ y142 : Int32, y142 = x2 + (1 : Int32) → wX5_looksOn_56 x REC a1 Q f V y142)) ∧ (¬ r89 = 0 → wX5_isBetween x V a1 x2 (fun r98 => ((¬ r98 = 0 → (vp_in a1 8 ∧ (vp_in x2 8 ∧ REC (vset (vset V ((x + 149) + 1) a1.toNatClampNeg x2) ((x + 149) + 2) x2.toNatClampNeg a1) (a1 + (1 : Int32)) (fun V125 => (vp_in a1 8 ∧ (vp_in x2 8 ∧ (∀ y142 : Int32, y142 = x2 + (1 : Int32) → wX5_looksOn_56 x REC a1 Q f (vset (vset V125 ((x + 149) + 1) a1.toNatClampNeg (-1 : Int32)) ((x + 149) + 2) x2.toNatClampNeg (-1 : Int32)) y142))))))) ∧ (r98 = 0 → (∀ y142 : Int32, y142 = x2 + (1 : Int32) → wX5_looksOn_56 x REC a1 Q f V y142))))))))))))
theorem rX5_looksOn_56 {G : jG} {l : Launch} {d c n : Nat} (htr : l.stackTraces = false) (hdd : 3 ≤ d) {sh : List jH} {x : Nat} (hT : jReg shX1 sh x) {R : Nat → Nat → Option Nat} {REC : (Nat → Nat → Int32) → Int32 → ((Nat → Nat → Int32) → Prop) → Prop} {dr : Nat} (hdr : dr + 1 ≤ d) (hREC : ∀ {V : Nat → Nat → Int32} {a1 : Int32} {Q : (Nat → Nat → Int32) → Prop}, REC V a1 Q → JM G l MX5_looksOn dr 0 0 [.ref (x + 149), .int a1] (mk sh V R) (jWv sh R Q) jNo) {a1 : Int32} {Q : (Nat → Nat → Int32) → Prop} : ∀ (f : Nat) (V : Nat → Nat → Int32) (x2 : Int32), wX5_looksOn_56 x REC a1 Q f V x2 → J G l MX5_looksOn d c n 56 [(0, .ref (x + 149)), (1, .int a1), (2, .int x2)] [] (mk sh V R) (jWv sh R Q) jNo := by
  intro f
  induction f with
  | zero =>
    intro V x2 hw
    rw [wX5_looksOn_56] at hw
    exact hw.elim
  | succ f ih =>
    intro V x2 hw
    rw [wX5_looksOn_56] at hw
    refine J.iload_n 2 dX5_looksOn_56 rfl ?_
    refine J.aload_n 0 dX5_looksOn_57 rfl ?_
    refine bX5_3 rfl hT dX5_looksOn_58 ?_
    refine gX5_31 rfl hT dX5_looksOn_61 ?_
    refine gX5_54 rfl (hT.sub 1 36 rfl) dX5_looksOn_64 ?_
    refine J.icmp_ge 148 dX5_looksOn_67 (by decide) ⟨fun c67 => ?_, fun c67 => ?_⟩
    · have hw := hw.1 c67
      exact J.vret rfl dX5_looksOn_148 ⟨_, rfl, rfl, hw⟩
    · have hw := hw.2 c67
      refine J.aload_n 0 dX5_looksOn_70 rfl ?_
      refine gX5_19 rfl (hT.sub 149 6 rfl) dX5_looksOn_71 ?_
      refine J.iload_n 2 dX5_looksOn_74 rfl ?_
      obtain ⟨h75, hw⟩ := hw
      refine JV.iald dX5_looksOn_75 ((hT.sub 149 6 rfl).ge 2) ((hT.sub 149 6 rfl).at 2 rfl) h75 ?_
      refine J.iconst (v := (-1 : Int32)) dX5_looksOn_76 (by decide) ?_
      refine J.icmp_ne 142 dX5_looksOn_77 (by decide) ⟨fun c77 => ?_, fun c77 => ?_⟩
      · have hw := hw.1 c77
        refine J.iincN 2 (K := (1 : Int32)) (lv' := fun y142 => [(2, .int y142), (0, .ref (x + 149)), (1, .int a1)]) dX5_looksOn_142 rfl (by decide) (by decide) (fun _ => rfl) hw (fun y142 hw => ?_)
        refine J.goto 56 dX5_looksOn_145 (by decide) ?_
        exact J.pick [1, 2, 0] rfl (ih _ _ hw)
      · have hw := hw.2 c77
        refine J.aload_n 0 dX5_looksOn_80 rfl ?_
        refine bX5_3 rfl hT dX5_looksOn_81 ?_
        refine gX5_31 rfl hT dX5_looksOn_84 ?_
        refine J.iload_n 1 dX5_looksOn_87 rfl ?_
        refine J.iload_n 2 dX5_looksOn_88 rfl ?_
        refine kX5_35 rfl htr (hT.sub 1 36 rfl) dX5_looksOn_89 (by omega) (Nat.le_of_ble_eq_true rfl) hw (fun r89 hw => ?_)
        refine J.if_eq 142 dX5_looksOn_92 (by decide) ⟨fun c92 => ?_, fun c92 => ?_⟩
        · have hw := hw.1 c92
          refine J.iincN 2 (K := (1 : Int32)) (lv' := fun y142 => [(2, .int y142), (0, .ref (x + 149)), (1, .int a1)]) dX5_looksOn_142 rfl (by decide) (by decide) (fun _ => rfl) hw (fun y142 hw => ?_)
          refine J.goto 56 dX5_looksOn_145 (by decide) ?_
          exact J.pick [1, 2, 0] rfl (ih _ _ hw)
        · have hw := hw.2 c92
          refine J.aload_n 0 dX5_looksOn_95 rfl ?_
          refine J.iload_n 1 dX5_looksOn_96 rfl ?_
          refine J.iload_n 2 dX5_looksOn_97 rfl ?_
          refine kX5_111 rfl htr hT dX5_looksOn_98 (by omega) (Nat.le_of_ble_eq_true rfl) hw (fun r98 hw => ?_)
          refine J.if_ne 107 dX5_looksOn_101 (by decide) ⟨fun c101 => ?_, fun c101 => ?_⟩
          · have hw := hw.1 c101
            refine J.aload_n 0 dX5_looksOn_107 rfl ?_
            refine gX5_15 rfl (hT.sub 149 6 rfl) dX5_looksOn_108 ?_
            refine J.iload_n 1 dX5_looksOn_111 rfl ?_
            refine J.iload_n 2 dX5_looksOn_112 rfl ?_
            obtain ⟨h113, hw⟩ := hw
            refine JV.iast dX5_looksOn_113 ((hT.sub 149 6 rfl).ge 1) ((hT.sub 149 6 rfl).at 1 rfl) h113 ?_
            refine J.aload_n 0 dX5_looksOn_114 rfl ?_
            refine gX5_19 rfl (hT.sub 149 6 rfl) dX5_looksOn_115 ?_
            refine J.iload_n 2 dX5_looksOn_118 rfl ?_
            refine J.iload_n 1 dX5_looksOn_119 rfl ?_
            obtain ⟨h120, hw⟩ := hw
            refine JV.iast dX5_looksOn_120 ((hT.sub 149 6 rfl).ge 2) ((hT.sub 149 6 rfl).at 2 rfl) h120 ?_
            refine J.aload_n 0 dX5_looksOn_121 rfl ?_
            refine J.iload_n 1 dX5_looksOn_122 rfl ?_
            refine J.iconst (v := (1 : Int32)) dX5_looksOn_123 (by decide) ?_
            refine J.iadd dX5_looksOn_124 ?_
            refine ksX5_104 rfl htr hT hdr hREC dX5_looksOn_125 (Nat.le_of_ble_eq_true rfl) hw (fun V125 hw => ?_)
            refine J.aload_n 0 dX5_looksOn_128 rfl ?_
            refine gX5_15 rfl (hT.sub 149 6 rfl) dX5_looksOn_129 ?_
            refine J.iload_n 1 dX5_looksOn_132 rfl ?_
            refine J.iconst (v := (-1 : Int32)) dX5_looksOn_133 (by decide) ?_
            obtain ⟨h134, hw⟩ := hw
            refine JV.iast dX5_looksOn_134 ((hT.sub 149 6 rfl).ge 1) ((hT.sub 149 6 rfl).at 1 rfl) h134 ?_
            refine J.aload_n 0 dX5_looksOn_135 rfl ?_
            refine gX5_19 rfl (hT.sub 149 6 rfl) dX5_looksOn_136 ?_
            refine J.iload_n 2 dX5_looksOn_139 rfl ?_
            refine J.iconst (v := (-1 : Int32)) dX5_looksOn_140 (by decide) ?_
            obtain ⟨h141, hw⟩ := hw
            refine JV.iast dX5_looksOn_141 ((hT.sub 149 6 rfl).ge 2) ((hT.sub 149 6 rfl).at 2 rfl) h141 ?_
            refine J.iincN 2 (K := (1 : Int32)) (lv' := fun y142 => [(2, .int y142), (0, .ref (x + 149)), (1, .int a1)]) dX5_looksOn_142 rfl (by decide) (by decide) (fun _ => rfl) hw (fun y142 hw => ?_)
            refine J.goto 56 dX5_looksOn_145 (by decide) ?_
            exact J.pick [1, 2, 0] rfl (ih _ _ hw)
          · have hw := hw.2 c101
            refine J.goto 142 dX5_looksOn_104 (by decide) ?_
            refine J.iincN 2 (K := (1 : Int32)) (lv' := fun y142 => [(2, .int y142), (0, .ref (x + 149)), (1, .int a1)]) dX5_looksOn_142 rfl (by decide) (by decide) (fun _ => rfl) hw (fun y142 hw => ?_)
            refine J.goto 56 dX5_looksOn_145 (by decide) ?_
            exact J.pick [1, 2, 0] rfl (ih _ _ hw)
def wX5_looksOn_31 (x : Nat) (REC : (Nat → Nat → Int32) → Int32 → ((Nat → Nat → Int32) → Prop) → Prop) (a1 : Int32) (Q : (Nat → Nat → Int32) → Prop) (V : Nat → Nat → Int32) (s1 : Int32) (s2 : Int32) : Prop :=
  (∀ y32 : Int32, y32 = (s1 + s2) → Q (vset V (x + 149) 5 y32))
theorem rX5_looksOn_31 {G : jG} {l : Launch} {d c n : Nat} (htr : l.stackTraces = false) (hdd : 3 ≤ d) {sh : List jH} {x : Nat} (hT : jReg shX1 sh x) {R : Nat → Nat → Option Nat} {REC : (Nat → Nat → Int32) → Int32 → ((Nat → Nat → Int32) → Prop) → Prop} {dr : Nat} (hdr : dr + 1 ≤ d) (hREC : ∀ {V : Nat → Nat → Int32} {a1 : Int32} {Q : (Nat → Nat → Int32) → Prop}, REC V a1 Q → JM G l MX5_looksOn dr 0 0 [.ref (x + 149), .int a1] (mk sh V R) (jWv sh R Q) jNo) {a1 : Int32} {Q : (Nat → Nat → Int32) → Prop} {V : Nat → Nat → Int32} {s1 : Int32} {s2 : Int32} (hw : wX5_looksOn_31 x REC a1 Q V s1 s2) : J G l MX5_looksOn d c n 31 [] [.int s2, .int s1, .ref (x + 149)] (mk sh V R) (jWv sh R Q) jNo := by
  unfold wX5_looksOn_31 at hw
  refine J.iadd dX5_looksOn_31 ?_
  refine J.nm hw (fun y32 hw => ?_)
  refine pX5_101 rfl (hT.sub 149 6 rfl) dX5_looksOn_32 ?_
  exact J.vret rfl dX5_looksOn_35 ⟨_, rfl, rfl, hw⟩
def wX5_looksOn_B (x : Nat) (REC : (Nat → Nat → Int32) → Int32 → ((Nat → Nat → Int32) → Prop) → Prop) (V : Nat → Nat → Int32) (a1 : Int32) (Q : (Nat → Nat → Int32) → Prop) : Prop :=
  ((¬ a1 = (V (x + 1) 1) → (vp_in a1 8 ∧ ((¬ (V ((x + 149) + 4) a1.toNatClampNeg) = (-1 : Int32) → (∃ f9, wX5_looksOn_56 x REC a1 Q f9 V (0 : Int32))) ∧ ((V ((x + 149) + 4) a1.toNatClampNeg) = (-1 : Int32) → REC V (a1 + (1 : Int32)) (fun V50 => Q V50))))) ∧ (a1 = (V (x + 1) 1) → wX5_rathers x V (fun r20 => ((¬ r20 = 0 → wX5_looksOn_31 x REC a1 Q V (V (x + 149) 5) (0 : Int32)) ∧ (r20 = 0 → wX5_looksOn_31 x REC a1 Q V (V (x + 149) 5) (1 : Int32))))))
def wX5_looksOn (x : Nat) : Nat → (Nat → Nat → Int32) → Int32 → ((Nat → Nat → Int32) → Prop) → Prop
  | 0, _, _, _ => False
  | f + 1, V, a1, Q => wX5_looksOn_B x (wX5_looksOn x f) V a1 Q
theorem mX5_looksOn {G : jG} {l : Launch} (htr : l.stackTraces = false) {sh : List jH} {x : Nat} (hT : jReg shX1 sh x) {R : Nat → Nat → Option Nat} : ∀ (f : Nat) {V : Nat → Nat → Int32} {a1 : Int32} {Q : (Nat → Nat → Int32) → Prop}, wX5_looksOn x f V a1 Q → JM G l MX5_looksOn (3 + f) 0 0 [.ref (x + 149), .int a1] (mk sh V R) (jWv sh R Q) jNo := by
  intro f
  induction f with
  | zero =>
    intro V a1 Q hw
    rw [wX5_looksOn] at hw
    exact hw.elim
  | succ f ih =>
    intro V a1 Q hw
    rw [wX5_looksOn] at hw
    have hdr : (3 + f) + 1 ≤ 3 + (f + 1) := by omega
    have hREC := @ih
    refine JM.intro (by decide) rfl htr (Nat.le_of_ble_eq_true rfl) ?_
    show J G l MX5_looksOn (3 + (f + 1)) 0 0 0 [(0, .ref (x + 149)), (1, .int a1)] [] (mk sh V R) _ _
    unfold wX5_looksOn_B at hw
    refine J.iload_n 1 dX5_looksOn_0 rfl ?_
    refine J.aload_n 0 dX5_looksOn_1 rfl ?_
    refine bX5_3 rfl hT dX5_looksOn_2 ?_
    refine gX5_31 rfl hT dX5_looksOn_5 ?_
    refine gX5_65 rfl (hT.sub 1 36 rfl) dX5_looksOn_8 ?_
    refine J.icmp_ne 36 dX5_looksOn_11 (by decide) ⟨fun c11 => ?_, fun c11 => ?_⟩
    · have hw := hw.1 c11
      refine J.aload_n 0 dX5_looksOn_36 rfl ?_
      refine gX5_25 rfl (hT.sub 149 6 rfl) dX5_looksOn_37 ?_
      refine J.iload_n 1 dX5_looksOn_40 rfl ?_
      obtain ⟨h41, hw⟩ := hw
      refine JV.iald dX5_looksOn_41 ((hT.sub 149 6 rfl).ge 4) ((hT.sub 149 6 rfl).at 4 rfl) h41 ?_
      refine J.iconst (v := (-1 : Int32)) dX5_looksOn_42 (by decide) ?_
      refine J.icmp_ne 54 dX5_looksOn_43 (by decide) ⟨fun c43 => ?_, fun c43 => ?_⟩
      · have hw := hw.1 c43
        refine J.iconst (v := (0 : Int32)) dX5_looksOn_54 (by decide) ?_
        refine J.istore_n (lv' := [(2, .int (0 : Int32)), (0, .ref (x + 149)), (1, .int a1)]) dX5_looksOn_55 (by decide) rfl ?_
        obtain ⟨f9, hw⟩ := hw
        exact J.pick [1, 2, 0] rfl (rX5_looksOn_56 htr (by omega) hT hdr hREC f9 _ _ hw)
      · have hw := hw.2 c43
        refine J.aload_n 0 dX5_looksOn_46 rfl ?_
        refine J.iload_n 1 dX5_looksOn_47 rfl ?_
        refine J.iconst (v := (1 : Int32)) dX5_looksOn_48 (by decide) ?_
        refine J.iadd dX5_looksOn_49 ?_
        refine ksX5_104 rfl htr hT hdr hREC dX5_looksOn_50 (Nat.le_of_ble_eq_true rfl) hw (fun V50 hw => ?_)
        exact J.vret rfl dX5_looksOn_53 ⟨_, rfl, rfl, hw⟩
    · have hw := hw.2 c11
      refine J.aload_n 0 dX5_looksOn_14 rfl ?_
      refine J.dup dX5_looksOn_15 rfl ?_
      refine gX5_101 rfl (hT.sub 149 6 rfl) dX5_looksOn_16 ?_
      refine J.aload_n 0 dX5_looksOn_19 rfl ?_
      refine kX5_107 rfl htr hT dX5_looksOn_20 (by omega) (Nat.le_of_ble_eq_true rfl) hw (fun r20 hw => ?_)
      refine J.if_ne 30 dX5_looksOn_23 (by decide) ⟨fun c23 => ?_, fun c23 => ?_⟩
      · have hw := hw.1 c23
        refine J.iconst (v := (0 : Int32)) dX5_looksOn_30 (by decide) ?_
        exact J.pick [] rfl (rX5_looksOn_31 htr (by omega) hT hdr hREC hw)
      · have hw := hw.2 c23
        refine J.iconst (v := (1 : Int32)) dX5_looksOn_26 (by decide) ?_
        refine J.goto 31 dX5_looksOn_27 (by decide) ?_
        exact J.pick [] rfl (rX5_looksOn_31 htr (by omega) hT hdr hREC hw)
abbrev MX5_allWays : jM := (yX5_allWays, cX5_allWays, 1, some .int, [])
theorem kX5_88 {G : jG} {l : Launch} {M : jM} {d c n pc : Nat} {lv : List (Nat × Value)} {rest : List Value} {post : Option Value → List jC → Prop} {xp : String → List jC → Prop} (hM : M.1.cls = RX5) (htr : l.stackTraces = false) {sh : List jH} {V : Nat → Nat → Int32} {R : Nat → Nat → Option Nat} {x : Nat} (hT : jReg shX1 sh x) {Q : (Nat → Nat → Int32) → Prop} (hd : decode M.2.1 pc = .ok (.invokevirtual 88, 3)) (hdd : 4 + 1 ≤ d) (hw8 : (rest.map fun v => v.category).sum ≤ 8) (hw : wX5_byHosts x V Q) (kk : ∀ V', Q V' → J G l M d c n (pc + 3) lv (.ref ((x + 149)) :: rest) (mk sh V' R) post xp) : J G l M d c n pc lv (.ref (x + 149) :: rest) (mk sh V R) post xp :=
  J.callV (As := []) (hcw := by rw [hM]; exact lw_V q652 q653 q654 q151 q655) (mX5_byHosts htr hT hw) hd rfl ⟨4, _, _, mk_at (hT.at 149 rfl), rfl, rfl, fun _ => rfl⟩ ⟨rfl, by decide, by decide, by show _ = some 0; decide +kernel⟩ hw8 ⟨hdd, by decide⟩ jcc0 (fun r9 g9 h9 => by obtain ⟨V9, rfl, rfl, h⟩ := h9; exact kk V9 h) jNo.x
theorem kX5_98 {G : jG} {l : Launch} {M : jM} {d c n pc : Nat} {lv : List (Nat × Value)} {rest : List Value} {post : Option Value → List jC → Prop} {xp : String → List jC → Prop} (hM : M.1.cls = RX5) (htr : l.stackTraces = false) {sh : List jH} {V : Nat → Nat → Int32} {R : Nat → Nat → Option Nat} {x : Nat} (hT : jReg shX1 sh x) {Q : (Nat → Nat → Int32) → Prop} (hd : decode M.2.1 pc = .ok (.invokevirtual 98, 3)) (hdd : 4 + 1 ≤ d) (hw8 : (rest.map fun v => v.category).sum ≤ 8) (hw : wX5_byGuests x V Q) (kk : ∀ V', Q V' → J G l M d c n (pc + 3) lv (.ref ((x + 149)) :: rest) (mk sh V' R) post xp) : J G l M d c n pc lv (.ref (x + 149) :: rest) (mk sh V R) post xp :=
  J.callV (As := []) (hcw := by rw [hM]; exact lw_V q684 q685 q686 q151 q687) (mX5_byGuests htr hT hw) hd rfl ⟨4, _, _, mk_at (hT.at 149 rfl), rfl, rfl, fun _ => rfl⟩ ⟨rfl, by decide, by decide, by show _ = some 0; decide +kernel⟩ hw8 ⟨hdd, by decide⟩ jcc0 (fun r9 g9 h9 => by obtain ⟨V9, rfl, rfl, h⟩ := h9; exact kk V9 h) jNo.x
theorem kX5_104 {G : jG} {l : Launch} {M : jM} {d c n pc : Nat} {lv : List (Nat × Value)} {rest : List Value} {post : Option Value → List jC → Prop} {xp : String → List jC → Prop} (hM : M.1.cls = RX5) (htr : l.stackTraces = false) {sh : List jH} {V : Nat → Nat → Int32} {R : Nat → Nat → Option Nat} {x : Nat} (hT : jReg shX1 sh x) {a1 : Int32} {Q : (Nat → Nat → Int32) → Prop} (hd : decode M.2.1 pc = .ok (.invokevirtual 104, 3)) (hdd : 15 + 1 ≤ d) (hw8 : (rest.map fun v => v.category).sum ≤ 8) (hw : ∃ f9, f9 ≤ 12 ∧ wX5_looksOn x f9 V a1 Q) (kk : ∀ V', Q V' → J G l M d c n (pc + 3) lv rest (mk sh V' R) post xp) : J G l M d c n pc lv (.int a1 :: .ref (x + 149) :: rest) (mk sh V R) post xp := by
  obtain ⟨f9, hf9, hw⟩ := hw
  exact J.callV (As := [.int a1]) (hcw := by rw [hM]; exact lw_V q696 q698 qs10 q151 q699) (mX5_looksOn htr hT f9 hw) hd rfl ⟨4, _, _, mk_at (hT.at 149 rfl), rfl, rfl, fun _ => rfl⟩ ⟨rfl, by decide, by decide, by show _ = some 1; decide +kernel⟩ hw8 ⟨by omega, by decide⟩ jcc0 (fun r9 g9 h9 => by obtain ⟨V9, rfl, rfl, h⟩ := h9; exact kk V9 h) jNo.x
-- VisitingHours$Pairs.allWays()I
def wX5_allWays (x : Nat) (V : Nat → Nat → Int32) (Q : Int32 → (Nat → Nat → Int32) → Prop) : Prop :=
  wX5_byHosts x V (fun V1 => wX5_byGuests x (vcpy V1 ((x + 149) + 1) ((x + 149) + 4) 0 0 8) (fun V19 => wX5_clears x (vcpy V19 ((x + 149) + 1) ((x + 149) + 5) 0 0 8) (fun V37 => (∃ f47, f47 ≤ 12 ∧ wX5_looksOn x f47 (vset V37 (x + 149) 5 (0 : Int32)) (0 : Int32) (fun V47 => Q (V47 (x + 149) 5) V47)))))
theorem mX5_allWays {G : jG} {l : Launch} (htr : l.stackTraces = false) {sh : List jH} {V : Nat → Nat → Int32} {R : Nat → Nat → Option Nat} {x : Nat} (hT : jReg shX1 sh x) {Q : Int32 → (Nat → Nat → Int32) → Prop} (hw : wX5_allWays x V Q) : JM G l MX5_allWays 16 0 0 [.ref (x + 149)] (mk sh V R) (jWr sh R Q) jNo := by
  refine JM.intro (by decide) rfl htr (Nat.le_of_ble_eq_true rfl) ?_
  show J G l MX5_allWays 16 0 0 0 [(0, .ref (x + 149))] [] (mk sh V R) _ _
  unfold wX5_allWays at hw
  refine J.aload_n 0 dX5_allWays_0 rfl ?_
  refine kX5_88 rfl htr hT dX5_allWays_1 (by omega) (Nat.le_of_ble_eq_true rfl) hw (fun V1 hw => ?_)
  refine gX5_15 rfl (hT.sub 149 6 rfl) dX5_allWays_4 ?_
  refine J.iconst (v := (0 : Int32)) dX5_allWays_7 (by decide) ?_
  refine J.aload_n 0 dX5_allWays_8 rfl ?_
  refine gX5_25 rfl (hT.sub 149 6 rfl) dX5_allWays_9 ?_
  refine J.iconst (v := (0 : Int32)) dX5_allWays_12 (by decide) ?_
  refine J.bipush (v := (8 : Int32)) dX5_allWays_13 (by decide) ?_
  refine JV.copyi 0 0 8 dX5_allWays_15 q681 q683 q682 q153 ((hT.sub 149 6 rfl).ge 1) ((hT.sub 149 6 rfl).ge 4) ((hT.sub 149 6 rfl).at 1 rfl) ((hT.sub 149 6 rfl).at 4 rfl) (by decide) (by decide) (by decide) (by decide) (by decide) (by decide) (by decide) (by decide) (Nat.le_of_ble_eq_true rfl) (by omega) ?_
  refine J.aload_n 0 dX5_allWays_18 rfl ?_
  refine kX5_98 rfl htr hT dX5_allWays_19 (by omega) (Nat.le_of_ble_eq_true rfl) hw (fun V19 hw => ?_)
  refine gX5_15 rfl (hT.sub 149 6 rfl) dX5_allWays_22 ?_
  refine J.iconst (v := (0 : Int32)) dX5_allWays_25 (by decide) ?_
  refine J.aload_n 0 dX5_allWays_26 rfl ?_
  refine gX5_28 rfl (hT.sub 149 6 rfl) dX5_allWays_27 ?_
  refine J.iconst (v := (0 : Int32)) dX5_allWays_30 (by decide) ?_
  refine J.bipush (v := (8 : Int32)) dX5_allWays_31 (by decide) ?_
  refine JV.copyi 0 0 8 dX5_allWays_33 q681 q683 q682 q153 ((hT.sub 149 6 rfl).ge 1) ((hT.sub 149 6 rfl).ge 5) ((hT.sub 149 6 rfl).at 1 rfl) ((hT.sub 149 6 rfl).at 5 rfl) (by decide) (by decide) (by decide) (by decide) (by decide) (by decide) (by decide) (by decide) (Nat.le_of_ble_eq_true rfl) (by omega) ?_
  refine J.aload_n 0 dX5_allWays_36 rfl ?_
  refine kX5_71 rfl htr hT dX5_allWays_37 (by omega) (Nat.le_of_ble_eq_true rfl) hw (fun V37 hw => ?_)
  refine J.aload_n 0 dX5_allWays_40 rfl ?_
  refine J.iconst (v := (0 : Int32)) dX5_allWays_41 (by decide) ?_
  refine pX5_101 rfl (hT.sub 149 6 rfl) dX5_allWays_42 ?_
  refine J.aload_n 0 dX5_allWays_45 rfl ?_
  refine J.iconst (v := (0 : Int32)) dX5_allWays_46 (by decide) ?_
  refine kX5_104 rfl htr hT dX5_allWays_47 (by omega) (Nat.le_of_ble_eq_true rfl) hw (fun V47 hw => ?_)
  refine J.aload_n 0 dX5_allWays_50 rfl ?_
  refine gX5_101 rfl (hT.sub 149 6 rfl) dX5_allWays_51 ?_
  exact J.iret rfl dX5_allWays_54 ⟨_, rfl, _, rfl, hw⟩
abbrev MX1_ways : jM := (yX1_ways, cX1_ways, 1, some .int, [])
theorem kX1_549 {G : jG} {l : Launch} {M : jM} {d c n pc : Nat} {lv : List (Nat × Value)} {rest : List Value} {post : Option Value → List jC → Prop} {xp : String → List jC → Prop} (hM : M.1.cls = RX1) (htr : l.stackTraces = false) {sh : List jH} {V : Nat → Nat → Int32} {R : Nat → Nat → Option Nat} {x : Nat} (hT : jReg shX1 sh x) {Q : Int32 → (Nat → Nat → Int32) → Prop} (hd : decode M.2.1 pc = .ok (.invokevirtual 549, 3)) (hdd : 16 + 1 ≤ d) (hw8 : (rest.map fun v => v.category).sum ≤ 8) (hw : wX5_allWays x V Q) (kk : ∀ r V', Q r V' → J G l M d c n (pc + 3) lv (.int r :: rest) (mk sh V' R) post xp) : J G l M d c n pc lv (.ref (x + 149) :: rest) (mk sh V R) post xp :=
  J.callV (As := []) (hcw := by rw [hM]; exact lw_V q648 q649 q650 q151 q651) (mX5_allWays htr hT hw) hd rfl ⟨4, _, _, mk_at (hT.at 149 rfl), rfl, rfl, fun _ => rfl⟩ ⟨rfl, by decide, by decide, by show _ = some 0; decide +kernel⟩ hw8 ⟨hdd, by decide⟩ jcc0 (fun r9 g9 h9 => by obtain ⟨V9, rfl, r, rfl, h⟩ := h9; exact kk r V9 h) jNo.x
-- VisitingHours.ways()I
def wX1_ways (x : Nat) (V : Nat → Nat → Int32) (Q : Int32 → (Nat → Nat → Int32) → Prop) : Prop :=
  wX5_allWays x V (fun r4 V4 => Q r4 V4)
theorem mX1_ways {G : jG} {l : Launch} (htr : l.stackTraces = false) {sh : List jH} {V : Nat → Nat → Int32} {R : Nat → Nat → Option Nat} {x : Nat} (hT : jReg shX1 sh x) {Q : Int32 → (Nat → Nat → Int32) → Prop} (hw : wX1_ways x V Q) : JM G l MX1_ways 17 0 0 [.ref x] (mk sh V R) (jWr sh R Q) jNo := by
  refine JM.intro (by decide) rfl htr (Nat.le_of_ble_eq_true rfl) ?_
  show J G l MX1_ways 17 0 0 0 [(0, .ref x)] [] (mk sh V R) _ _
  unfold wX1_ways at hw
  refine J.aload_n 0 dX1_ways_0 rfl ?_
  refine gX1_51 rfl hT dX1_ways_1 ?_
  refine kX1_549 rfl htr hT dX1_ways_4 (by omega) (Nat.le_of_ble_eq_true rfl) hw (fun r4 V4 hw => ?_)
  exact J.iret rfl dX1_ways_7 ⟨_, rfl, _, rfl, hw⟩
